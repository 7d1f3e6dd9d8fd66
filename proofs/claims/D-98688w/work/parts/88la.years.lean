set_option maxRecDepth 100000
/-! YEARS -/
def drw (r : Int32) : Int32 := r * 1103515245 + 12345
def u16 (r : Int32) : Nat := ix ((Int32.toUInt32 r >>> (Int32.toUInt32 16 &&& Int32.toUInt32 31)).toInt32)
theorem u16_zn (r : Int32) : u16 r < 65536 ∧ (Int32.toUInt32 r >>> (Int32.toUInt32 16 &&& Int32.toUInt32 31)).toInt32 = zn (u16 r) := by
  have key : ∃ m, m < 65536 ∧ (Int32.toUInt32 r >>> (Int32.toUInt32 16 &&& Int32.toUInt32 31)).toInt32 = zn m := by
    have e : (Int32.toUInt32 16 &&& Int32.toUInt32 31) = 16 := by decide
    rw [e]
    refine ⟨(Int32.toUInt32 r >>> 16).toNat, ?_, ?_⟩
    · rw [UInt32.toNat_shiftRight]
      have h1 := UInt32.toNat_lt (Int32.toUInt32 r)
      have h2 : ((16 : UInt32).toNat % 32) = 16 := by decide
      rw [h2, Nat.shiftRight_eq_div_pow]
      omega
    · apply Int32.toBitVec_inj.mp
      show (Int32.toUInt32 r >>> 16).toBitVec = BitVec.ofNat 32 (Int32.toUInt32 r >>> 16).toBitVec.toNat
      rw [BitVec.ofNat_toNat, BitVec.setWidth_eq]
  obtain ⟨m, h1, h2⟩ := key
  have e : u16 r = m := by
    unfold u16
    rw [h2, ix_zn (by omega)]
  rw [e]
  exact ⟨h1, h2⟩
theorem zn_div {a b : Nat} (ha : a < 2147483648) (hb : b < 2147483648) : zn a / zn b = zn (a / b) := (Int32.ofNat_div (by omega) (by omega)).symm
theorem zn_mod {a b : Nat} (ha : a < 65536) (hb0 : 0 < b) (hb : b < 1000) : zn a - zn a / zn b * zn b = zn (a % b) := by
  have h1 : a / b * b ≤ a := Nat.div_mul_le_self a b
  rw [zn_div (by omega) (by omega), zn_mul, zn_sub h1]
  congr 1
  have := Nat.div_add_mod a b
  rw [Nat.mul_comm] at this
  omega
section
variable {C : SV} {A : Nat → Int32} {M M1 : PM} {l : List Int64}
theorem xs_draws {r : Int32} (h : M.i 20 63 = r) {k : Nat} (h0 : 0 < k) (hk : k < 1000) : x_draws (zn k) M = some (zn (u16 (drw r) % k), M.si 20 63 (drw r)) := by
  obtain ⟨q1, q2⟩ := u16_zn (drw r)
  have hd : M.i 20 63 * 1103515245 + 12345 = drw r := by rw [h]; rfl
  have e63 : (M.si 20 63 (drw r)).i 20 63 = drw r := by rw [si_i, if_pos ⟨rfl, rfl⟩]
  unfold x_draws
  rw [hd, lt_u, ckb_t (show ¬ zn k = 0 from by rw [zn_eq_l (by omega) (by omega)]; omega), e63, q2, zn_mod q1 h0 hk]
theorem ms_draw {r : Int32} (h : M.i 72 50 = r) {k : Nat} (h0 : 0 < k) (hk : k < 1000) : m_draw (zn k) M = some (zn (u16 (drw r) % k), M.si 72 50 (drw r)) := by
  obtain ⟨q1, q2⟩ := u16_zn (drw r)
  have hd : M.i 72 50 * 1103515245 + 12345 = drw r := by rw [h]; rfl
  have e63 : (M.si 72 50 (drw r)).i 72 50 = drw r := by rw [si_i, if_pos ⟨rfl, rfl⟩]
  unfold m_draw
  rw [hd, lt_u, ckb_t (show ¬ zn k = 0 from by rw [zn_eq_l (by omega) (by omega)]; omega), e63, q2, zn_mod q1 h0 hk]
end
/-- one hour by the lot: the road, the lot, what was paid, how often it could not be -/
abbrev YT : Type := (Nat → Int32) × Int32 × Int32 × Int32
def yh (A B : Nat → Int32) : Nat → Int32 := fun j => if j = 12 then A 12 + 1 else B j
abbrev wyD (what : Nat) : Int32 := if 1 - what = 1 then 1 else -1
def yrQ (C : SV) (s : YT) (t what w : Nat) (r2 r3 : Int32) : YT :=
  if what < 2 then
    (if 0 ≤ s.1 t + wyD what ∧ s.1 t + wyD what ≤ zn C.ns - 1 then (yh s.1 (wlkA s.1 t (s.1 t + wyD what)), r2, s.2.2.1, s.2.2.2) else (yh s.1 s.1, r2, s.2.2.1, s.2.2.2 + 1))
  else
    (if tol C w (s.1 t) (s.1 12) ≤ s.1 (4 + t) then (yh s.1 (sayA C s.1 t w (atN s.1 t)), r3, s.2.2.1 + tol C w (s.1 t) (s.1 12), s.2.2.2) else (yh s.1 s.1, r3, s.2.2.1, s.2.2.2 + 1))
def yrS (C : SV) (s : YT) : YT := yrQ C s (u16 (drw s.2.1) % C.nt) (u16 (drw (drw s.2.1)) % 4) (u16 (drw (drw (drw s.2.1))) % C.nw) (drw (drw s.2.1)) (drw (drw (drw s.2.1)))
def yrT (C : SV) (A : Nat → Int32) (r : Int32) (k : Nat) : YT := itr (fun _ s => yrS C s) k (A, r, 0, 0)
section
variable {C : SV} {A B : Nat → Int32} {M M1 : PM} {l : List Int64}
theorem ok_yh (hC : OKC C) (h : OKA C B) : OKA C (yh A B) := by
  have := hC.nt4
  refine ⟨fun u hu => ?_, ?_, fun u hu => ?_⟩
  · unfold yh
    rw [if_neg (by omega)]; exact h.1 u hu
  · unfold yh
    rw [if_neg (by omega)]; exact h.2.1
  · unfold yh
    rw [if_neg (by omega)]; exact h.2.2 u hu
theorem rx_yh (h : RvX 26 B M) (v : Int32) (hv : v = A 12 + 1) : RvX 26 (yh A B) (M.si 26 4 v) := by
  obtain ⟨h1, h2, h3, h4⟩ := h
  refine ⟨fun t ht => ?_, ?_, ?_, fun k hk => ?_⟩
  · obtain ⟨u1, u2, u3⟩ := h1 t ht
    unfold yh
    rw [if_neg (by omega), if_neg (by omega), if_neg (by omega), si_i, if_neg (by omega), si_i, if_neg (by omega), si_i, if_neg (by omega)]
    exact ⟨u1, u2, u3⟩
  · unfold yh
    rw [si_i, if_pos ⟨rfl, rfl⟩, if_pos rfl, hv]
  · unfold yh
    rw [si_i, if_neg (by omega), if_neg (by omega)]; exact h3
  · unfold yh
    rw [si_i, if_neg (by omega), if_neg (by omega)]; exact h4 k hk
theorem ry_yh (h : RvY 100 B M) (v : Int32) (hv : v = A 12 + 1) : RvY 100 (yh A B) (M.si 100 12 v) := by
  intro j hj
  unfold yh
  rw [si_i]
  by_cases e : j = 12
  · rw [if_pos ⟨rfl, e⟩, if_pos e, hv]
  · rw [if_neg (by omega), if_neg e]; exact h j hj
theorem sx26_ts (o j : Nat) (q : sxc 26 o j) : ts o j := by
  rcases q with q | q | q
  · exact ca_ts o j q
  · unfold rdc at q
    rcases (show (o = 26 ∧ 4 ≤ j) ∨ (27 ≤ o ∧ o ≤ 30) by omega) with w | w
    · exact Or.inr (Or.inl w)
    · exact Or.inr (Or.inr (Or.inl w))
  · exact Or.inl ⟨q.1, by omega⟩
theorem rd26_ts (o j : Nat) (q : rdc 26 o j) : ts o j := sx26_ts o j (Or.inr (Or.inl q))
theorem sy100_ts (o j : Nat) (q : syc 100 o j) : ts o j := by
  rcases q with q | q | q
  · exact ca_ts o j q
  · rw [q]; unfold ts; omega
  · rw [q.1, q.2]; unfold ts; omega
theorem Fq.tx (f : Fq ts M M1) : Fq xq M M1 := f.mo (fun _ _ q => Or.inl q)
theorem Fq.ty (f : Fq ts M M1) : Fq yq M M1 := f.mo (fun _ _ q => Or.inl q)
/-- where one stands, a way, a place -/
theorem yr_way (hC : OKC C) (hA : OKA C A) {t what : Nat} (ht : t < C.nt) (hg : 0 ≤ A t + wyD what ∧ A t + wyD what ≤ zn C.ns - 1) : OKA C (wlkA A t (A t + wyD what)) := by
  have b := hC.ns6
  rcases dm_or (show C.ns < 2147483648 by omega) (A t + wyD what) with ⟨s', hs', es⟩ | w
  · rw [es]; exact ok_wlk hA hC ht hs'
  · exact absurd hg w
theorem yrQ_ok (hC : OKC C) {s : YT} (h : OKA C s.1) {t what w : Nat} (ht : t < C.nt) (hw : w < C.nw) (r2 r3 : Int32) : OKA C (yrQ C s t what w r2 r3).1 := by
  unfold yrQ
  split
  · split
    · rename_i g
      exact ok_yh hC (yr_way hC h ht g)
    · exact ok_yh hC h
  · split
    · rename_i g
      exact ok_yh hC (ok_say h hC ht hw g)
    · exact ok_yh hC h
theorem yr_ok (hC : OKC C) (hT : 0 < C.nt) (hW : 0 < C.nw) {s : YT} (h : OKA C s.1) : OKA C (yrS C s).1 := yrQ_ok hC h (Nat.mod_lt _ hT) (Nat.mod_lt _ hW) _ _
theorem sub1_w : ∀ w, w < 2 → (1 : Int32) - zn w = zn (1 - w) := by decide +kernel
end
