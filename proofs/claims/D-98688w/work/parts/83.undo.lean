set_option maxRecDepth 100000
/-! ROADS THAT ARE PUT BY -/
section
variable {C : SV} {A B : Nat → Int32} {M M1 : PM} {n ch : Nat} {U : Nat → Nat → Int32} {K : Nat → Bool × (Nat → Int32) × Nat}
theorem vnw_n (M : PM) (x y z : Nat) : (M.nw x y z).n = M.n + 1 := by
  have h := nw_n M x y z
  exact h
/-- a road is made -/
theorem xs_rdinit (h0 : 105 ≤ M.n) : ∃ M', rd_init M.n (M.nw 1 0 6) = some ((), M') ∧ M'.n = M.n + 5 ∧ M'.w = M.w + 48 ∧ RdS M' M.n ∧ Ge (fun _ _ => False) M M' := by
  obtain ⟨N, hN⟩ : ∃ N, N = M.nw 1 0 6 := ⟨_, rfl⟩
  have n0 : N.n = M.n + 1 := by rw [hN]; rfl
  have k0 : N.k M.n = (1, 0) := by rw [hN, nw_k, if_pos rfl]
  rw [← hN]
  have k1 : (N.nw 20 4 4).k M.n = (1, 0) := by rw [nw_k, if_neg (by omega)]; exact k0
  obtain ⟨M2, h2⟩ : ∃ M2, M2 = (N.nw 20 4 4).sr M.n 0 (some N.n) := ⟨_, rfl⟩
  have n2 : M2.n = M.n + 2 := by rw [h2]; show N.n + 1 = _; omega
  have k2 : M2.k M.n = (1, 0) := by rw [h2]; exact k1
  have k3 : (M2.nw 20 4 4).k M.n = (1, 0) := by rw [nw_k, if_neg (by omega)]; exact k2
  obtain ⟨M4, h4⟩ : ∃ M4, M4 = (M2.nw 20 4 4).sr M.n 1 (some M2.n) := ⟨_, rfl⟩
  have n4 : M4.n = M.n + 3 := by rw [h4]; show M2.n + 1 = _; omega
  have k4 : M4.k M.n = (1, 0) := by rw [h4]; exact k3
  have k5 : (M4.nw 20 4 4).k M.n = (1, 0) := by rw [nw_k, if_neg (by omega)]; exact k4
  obtain ⟨M6, h6⟩ : ∃ M6, M6 = (M4.nw 20 4 4).sr M.n 2 (some M4.n) := ⟨_, rfl⟩
  have n6 : M6.n = M.n + 4 := by rw [h6]; show M4.n + 1 = _; omega
  have k6 : M6.k M.n = (1, 0) := by rw [h6]; exact k5
  have k7 : (M6.nw 20 30 30).k M.n = (1, 0) := by rw [nw_k, if_neg (by omega)]; exact k6
  obtain ⟨M8, h8⟩ : ∃ M8, M8 = (M6.nw 20 30 30).sr M.n 3 (some M6.n) := ⟨_, rfl⟩
  have n8 : M8.n = M.n + 5 := by rw [h8]; show M6.n + 1 = _; omega
  have r2 : ∀ o j, M2.r o j = if o = M.n ∧ j = 0 then some (M.n + 1) else if o = M.n + 1 then none else N.r o j := fun o j => by rw [h2, sr_r, nw_r, n0]
  have r4 : ∀ o j, M4.r o j = if o = M.n ∧ j = 1 then some (M.n + 2) else if o = M.n + 2 then none else M2.r o j := fun o j => by rw [h4, sr_r, nw_r, n2]
  have r6 : ∀ o j, M6.r o j = if o = M.n ∧ j = 2 then some (M.n + 3) else if o = M.n + 3 then none else M4.r o j := fun o j => by rw [h6, sr_r, nw_r, n4]
  have r8 : ∀ o j, M8.r o j = if o = M.n ∧ j = 3 then some (M.n + 4) else if o = M.n + 4 then none else M6.r o j := fun o j => by rw [h8, sr_r, nw_r, n6]
  have q2 : ∀ o, M2.k o = if o = M.n + 1 then (20, 4) else N.k o := fun o => by rw [h2, sr_k, nw_k, n0]
  have q4 : ∀ o, M4.k o = if o = M.n + 2 then (20, 4) else M2.k o := fun o => by rw [h4, sr_k, nw_k, n2]
  have q6 : ∀ o, M6.k o = if o = M.n + 3 then (20, 4) else M4.k o := fun o => by rw [h6, sr_k, nw_k, n4]
  have q8 : ∀ o, M8.k o = if o = M.n + 4 then (20, 30) else M6.k o := fun o => by rw [h8, sr_k, nw_k, n6]
  refine ⟨M8, ?_, n8, ?_, ⟨?_, ⟨?_, ?_, ?_, ?_⟩, ?_, ?_, ?_, ?_⟩, ?_, ?_, ?_⟩
  · unfold rd_init
    rw [lt_u, ckk_k k1, ckb_t h0, lt_u, ← h2, lt_u, ckk_k k3, ckb_t h0, lt_u, ← h4, lt_u, ckk_k k5, ckb_t h0, lt_u, ← h6, lt_u, ckk_k k7, ckb_t h0, lt_u, ← h8]
  · rw [h8, sr_w, nw_w, h6, sr_w, nw_w, h4, sr_w, nw_w, h2, sr_w, nw_w, hN, nw_w]
  · rw [h8, sr_k]; exact k7
  · rw [r8, if_neg (by omega), if_neg (by omega), r6, if_neg (by omega), if_neg (by omega), r4, if_neg (by omega), if_neg (by omega), r2, if_pos ⟨rfl, rfl⟩]
  · rw [r8, if_neg (by omega), if_neg (by omega), r6, if_neg (by omega), if_neg (by omega), r4, if_pos ⟨rfl, rfl⟩]
  · rw [r8, if_neg (by omega), if_neg (by omega), r6, if_pos ⟨rfl, rfl⟩]
  · rw [r8, if_pos ⟨rfl, rfl⟩]
  · rw [q8, if_neg (by omega), q6, if_neg (by omega), q4, if_neg (by omega), q2, if_pos rfl]
  · rw [q8, if_neg (by omega), q6, if_neg (by omega), q4, if_pos rfl]
  · rw [q8, if_neg (by omega), q6, if_pos rfl]
  · rw [q8, if_pos rfl]
  · omega
  · intro o ho
    rw [q8, if_neg (by omega), q6, if_neg (by omega), q4, if_neg (by omega), q2, if_neg (by omega), hN, nw_k, if_neg (by omega)]
  · intro o j ho _
    refine ⟨?_, ?_, ?_⟩
    · rw [h8, sr_i, nw_i, if_neg (by omega), h6, sr_i, nw_i, if_neg (by omega), h4, sr_i, nw_i, if_neg (by omega), h2, sr_i, nw_i, if_neg (by omega), hN, nw_i, if_neg (by omega)]
    · rw [h8, sr_l, nw_l, if_neg (by omega), h6, sr_l, nw_l, if_neg (by omega), h4, sr_l, nw_l, if_neg (by omega), h2, sr_l, nw_l, if_neg (by omega), hN, nw_l, if_neg (by omega)]
    · rw [r8, if_neg (by omega), if_neg (by omega), r6, if_neg (by omega), if_neg (by omega), r4, if_neg (by omega), if_neg (by omega), r2, if_neg (by omega), if_neg (by omega), hN, nw_r, if_neg (by omega)]
def psN (n : Nat) : Nat := if n = 12 then 12 else n + 1
def psU (n : Nat) (U : Nat → Nat → Int32) (B : Nat → Int32) : Nat → Nat → Int32 := if n = 12 then (fun k => if k = 11 then B else U (k + 1)) else (fun k => if k = n then B else U k)
/-- what putting by writes: the number, the slots, one road's block -/
abbrev pcl (a o j : Nat) : Prop := (o = 20 ∧ j = 43) ∨ o = 51 ∨ rdc a o j
/-- a road is put by -/
theorem xs_putLast (h : CX C M) (hd : DX M) {s m a : Nat} (hs : s = 21 ∨ s = 52) (hS : RdS M s) (hv : RvX s B M) (hm : m < 12) (h43 : M.i 20 43 = zn m) (h51 : M.r 51 m = some a) :
    ∃ M', (ck (M.i 20 43) 12 <| lt (M.r 51 (ix (M.i 20 43))) fun r2 => rf r2 fun a1 => ckk M a1 1 <| bd (rd_becomes a1 s M) fun _ M3 => lt (M3.si 20 43 ((M3.i 20 43) + 1)) fun M4 => some ((), M4)) = some ((), M') ∧ Fq (fun o j => (o = 20 ∧ j = 43) ∨ rdc a o j) M M' ∧ M'.i 20 43 = zn (m + 1) ∧ RvX a B M' := by
  obtain ⟨⟨g1, g2⟩, -⟩ := hd m (by omega) a (by unfold slt; rw [if_pos hm]; exact h51)
  have ha0 := g2.1
  obtain ⟨M3, e3, f3, v3⟩ := xs_becomes (a := a) (b := s) g2 hS (by omega) hv
  have i3 : M3.i 20 43 = zn m := by rw [f3.i _ _ (by unfold rdc; omega)]; exact h43
  refine ⟨M3.si 20 43 (zn (m + 1)), ?_, (f3.mo (fun o j q => Or.inr q)).si (Or.inl ⟨rfl, rfl⟩), by rw [si_i, if_pos ⟨rfl, rfl⟩], v3.fr (c := fun o j => o = 20 ∧ j = 43) (Fq.rf.si ⟨rfl, rfl⟩) (fun o j q => by unfold rdc at q; omega)⟩
  rw [h43, ck_zn hm (by omega), lt_u, ix_zn (by omega), h51, rf_s, ckk_k ha0, bde e3, lt_u, i3, zn_addl]
theorem rds_dis {a b : Nat} (ha : RdS M a) (hb : RdS M b) (hn : a ≠ b) : b + 4 < a ∨ a + 4 < b := by
  have k : ∀ {x y : Nat}, RdS M x → RdS M y → ¬ (x < y ∧ y ≤ x + 4) := by
    intro x y hx hy q
    have h0 := hy.1
    rcases (show y = x + 1 ∨ y = x + 2 ∨ y = x + 3 ∨ y = x + 4 by omega) with e | e | e | e
    · rw [e, hx.2.2.1] at h0; cases h0
    · rw [e, hx.2.2.2.1] at h0; cases h0
    · rw [e, hx.2.2.2.2.1] at h0; cases h0
    · rw [e, hx.2.2.2.2.2] at h0; cases h0
  have k1 := k ha hb
  have k2 := k hb ha
  omega
theorem xs_putFin (h : CX C M) (hd : DX M) (hK : KX C ch K M) {s m a : Nat} {V : Nat → Nat → Int32} (hs : s = 21 ∨ s = 52) (hS : RdS M s) (hv : RvX s B M) (hB : OKA C B) (hm : m < 12) (h43 : M.i 20 43 = zn m) (h51 : M.r 51 m = some a) (hV : ∀ k, k < m → OKA C (V k) ∧ ∃ a, M.r 51 k = some a ∧ RvX a (V k) M) :
    ∃ M', (ck (M.i 20 43) 12 <| lt (M.r 51 (ix (M.i 20 43))) fun r2 => rf r2 fun a1 => ckk M a1 1 <| bd (rd_becomes a1 s M) fun _ M3 => lt (M3.si 20 43 ((M3.i 20 43) + 1)) fun M4 => some ((), M4)) = some ((), M') ∧ Fq (fun o j => (o = 20 ∧ j = 43) ∨ rdc a o j) M M' ∧ DX M' ∧ UX C (m + 1) (fun k => if k = m then B else V k) M' ∧ KX C ch K M' := by
  obtain ⟨M', e', f', i', v'⟩ := xs_putLast h hd hs hS hv hm h43 h51
  have hsm : slt M m = some a := by unfold slt; rw [if_pos hm]; exact h51
  obtain ⟨⟨g1, g2⟩, g3⟩ := hd m (by omega) a hsm
  have oth : ∀ k, k < 14 → k ≠ m → ∀ a1 V, slt M k = some a1 → RvX a1 V M → RvX a1 V M' := by
    intro k hk hkm a1 V ha1 hV1
    obtain ⟨⟨q1, q2⟩, q3⟩ := hd k hk a1 ha1
    have hne : a ≠ a1 := by
      intro e
      exact g3 k hk hkm (by rw [ha1, e])
    have hdis := rds_dis g2 q2 hne
    exact hV1.fr f' (fun o j q => by unfold rdc at q; unfold rdc; omega)
  refine ⟨M', e', f', ?_, ⟨by omega, i', fun k hk => ?_⟩, ?_⟩
  · refine hd.ge h.sh.1 f'.ge (fun j => by unfold rdc; omega) (fun j => by unfold rdc; omega) (fun o j ho hj hk q => ?_)
    have q2 : o = a + 1 ∨ o = a + 2 ∨ o = a + 3 ∨ o = a + 4 := by
      rcases q with q | q
      · omega
      · unfold rdc at q; omega
    rcases q2 with e | e | e | e
    · rw [e, g2.2.2.1] at hk; cases hk
    · rw [e, g2.2.2.2.1] at hk; cases hk
    · rw [e, g2.2.2.2.2.1] at hk; cases hk
    · rw [e, g2.2.2.2.2.2] at hk; cases hk
  · have r51 : M'.r 51 k = M.r 51 k := f'.r _ _ (by unfold rdc; omega)
    show OKA C (if k = m then B else V k) ∧ ∃ a, M'.r 51 k = some a ∧ RvX a (if k = m then B else V k) M'
    by_cases e : k = m
    · rw [if_pos e, r51, e]
      exact ⟨hB, a, h51, v'⟩
    · rw [if_neg e, r51]
      obtain ⟨q0, a1, q1, q2⟩ := hV k (by omega)
      exact ⟨q0, a1, q1, oth k (by omega) e a1 _ (by unfold slt; rw [if_pos (by omega)]; exact q1) q2⟩
  · refine ⟨hK.1, by rw [f'.i _ _ (by unfold rdc; omega)]; exact hK.2.1, fun i hi => ⟨fun q => by rw [f'.r _ _ (by unfold rdc; omega)]; exact (hK.2.2 i hi).1 q, fun q => ?_⟩⟩
    obtain ⟨w1, w2, w3, a1, w4, w5⟩ := (hK.2.2 i hi).2 q
    exact ⟨w1, w2, by rw [f'.i _ _ (by unfold rdc; omega)]; exact w3, a1, by rw [f'.r _ _ (by unfold rdc; omega)]; exact w4, oth (12 + i) (by omega) (by omega) a1 _ (by unfold slt; rw [if_neg (by omega), show 12 + i - 12 = i by omega]; exact w4) w5⟩
theorem sh51 : ∀ q ∈ shR, ¬ (fun o j : Nat => (o = 20 ∧ j = 43) ∨ o = 51) q.1 q.2.1 := by decide +kernel
/-- the slots turned by one -/
theorem xs_turn (hr : ∀ k, k < 12 → ∃ a, M.r 51 k = some a ∧ M.k a = (1, 0)) {c1 : Nat} {c2 : Option Nat} (Kc : PM → Option (Unit × PM)) :
    ∃ M', x_putsBy_L18 c1 c2 Kc FU 1 M = Kc M' ∧ Fq (fun o _ => o = 51) M M' ∧ (∀ j, j < 11 → M'.r 51 j = M.r 51 (j + 1)) := by
  have := wlp (fun n k (_ : Unit) M2 => x_putsBy_L18 c1 c2 Kc n (zn (k + 1)) M2) 11 FU (FU_lt (by omega)) (fun _ s => s) () (fun k M2 => Fq (fun o _ => o = 51) M M2 ∧ (∀ j, j < k → M2.r 51 j = M.r 51 (j + 1)) ∧ ∀ j, k ≤ j → M2.r 51 j = M.r 51 j) (fun o => ∃ M', o = Kc M' ∧ Fq (fun o _ => o = 51) M M' ∧ (∀ j, j < 11 → M'.r 51 j = M.r 51 (j + 1))) (fun n k M2 hk hI => ?_) (fun n M2 hI => ?_) M ⟨Fq.rf, fun j q => absurd q (by omega), fun _ _ => rfl⟩
  · exact this
  · obtain ⟨f, i1, i2⟩ := hI
    obtain ⟨a, ha, hka⟩ := hr (k + 1) (by omega)
    have e1 : M2.r 51 (k + 1) = some a := by rw [i2 (k + 1) (by omega)]; exact ha
    have hk2 : M2.k a = (1, 0) := by rw [f.k]; exact hka
    refine ⟨M2.sr 51 k (some a), ⟨Fq.sr (c := fun o _ => o = 51) f rfl, fun j hj => ?_, fun j hj => ?_⟩, ?_⟩
    · rw [sr_r]
      by_cases e : j = k
      · rw [if_pos ⟨rfl, e⟩, e, ha]
      · rw [if_neg (by omega)]; exact i1 j (by omega)
    · rw [sr_r, if_neg (by omega)]; exact i2 j (by omega)
    · have e5 : zn (k + 1) + 1 = zn (k + 1 + 1) := zn_addl (k + 1) 1
      have e6 : zn (k + 1) - 1 = zn k := zn_subl (n := 1) (show 1 ≤ k + 1 by omega)
      show x_putsBy_L18 c1 c2 Kc (n + 1) (zn (k + 1)) M2 = x_putsBy_L18 c1 c2 Kc n (zn (k + 1 + 1)) _
      rw [x_putsBy_L18, if_neg (by rw [l_le_zn (by omega) (by omega)]; omega), ck_zn (by omega) (by omega), lt_u, ix_zn (by omega), e1, rf_s, e6, ck_zn (by omega) (by omega), ckk_k hk2, lt_u, ix_zn (by omega), lt_u, e5]
  · obtain ⟨f, i1, i2⟩ := hI
    refine ⟨M2, ?_, f, i1⟩
    show x_putsBy_L18 c1 c2 Kc (n + 1) (zn (11 + 1)) M2 = _
    rw [x_putsBy_L18, if_pos (by decide)]
theorem xs_putsBy (h : CX C M) (hd : DX M) (hU : UX C n U M) (hK : KX C ch K M) {s : Nat} (hs : s = 21 ∨ s = 52) (hS : RdS M s) (hv : RvX s B M) (hB : OKA C B) :
    ∃ M' a, x_putsBy s M = some ((), M') ∧ Ge (pcl a) M M' ∧ (M.n ≤ a ∨ ((105 ≤ a ∧ a + 4 < M.n) ∧ RdS M a)) ∧ M'.n ≤ M.n + 5 ∧ M'.w ≤ M.w + 48 ∧ DX M' ∧ UX C (psN n) (psU n U B) M' ∧ KX C ch K M' := by
  have h0 := h.sh.1
  have hn := hU.1
  have h43 := hU.2.1
  by_cases n12 : n = 12
  · have e12 : M.i 20 43 = 12 := by rw [h43, n12]; rfl
    have epN : psN n = 12 := if_pos n12
    have epU : psU n U B = fun k => if k = 11 then B else U (k + 1) := if_pos n12
    have hr : ∀ k, k < 12 → ∃ a, M.r 51 k = some a ∧ M.k a = (1, 0) := fun k hk => by
      obtain ⟨-, a, g1, -⟩ := hU.2.2 k (by omega)
      exact ⟨a, g1, (hd k (by omega) a (by unfold slt; rw [if_pos hk]; exact g1)).1.2.1⟩
    obtain ⟨a, ha, hka⟩ := hr 0 (by omega)
    obtain ⟨⟨da1, da2⟩, da3⟩ := hd 0 (by omega) a (by unfold slt; rw [if_pos (by omega)]; exact ha)
    obtain ⟨M2, e2, f2, t2⟩ := xs_turn hr (c1 := s) (c2 := some a) (fun (M10 : PM) => rf (some a) fun a4 => ck 11 12 <| ckk M10 a4 1 <| lt (M10.sr 51 (ix 11) (some a4)) fun M11 => lt (M11.si 20 43 ((M11.i 20 43) - 1)) fun M12 => (ck (M12.i 20 43) 12 <| lt (M12.r 51 (ix (M12.i 20 43))) fun r1 => jn (fun (M2 : PM) => ck (M2.i 20 43) 12 <| lt (M2.r 51 (ix (M2.i 20 43))) fun r2 => rf r2 fun a1 => ckk M2 a1 1 <| bd (rd_becomes a1 s M2) fun _ M3 => lt (M3.si 20 43 ((M3.i 20 43) + 1)) fun M4 => some ((), M4)) fun j2 => nl r1 (lt (M12.nw 1 0 6) fun M5 => bd (rd_init M12.n M5) fun _ M6 => ck (M12.i 20 43) 12 <| ckk M6 M12.n 1 <| lt (M6.sr 51 (ix (M12.i 20 43)) (some M12.n)) fun M7 => j2 M7) fun a2 => j2 M12))
    obtain ⟨M7, h7⟩ : ∃ M7, M7 = (M2.sr 51 11 (some a)).si 20 43 (zn 11) := ⟨_, rfl⟩
    have f7 : Fq (fun o j => (o = 20 ∧ j = 43) ∨ o = 51) M M7 := by
      rw [h7]
      exact Fq.si (c := fun o j => (o = 20 ∧ j = 43) ∨ o = 51) (Fq.sr (c := fun o j => (o = 20 ∧ j = 43) ∨ o = 51) (f2.mo (fun o j q => Or.inr q)) (Or.inr rfl)) (Or.inl ⟨rfl, rfl⟩)
    have r51 : ∀ j, j < 12 → M7.r 51 j = M.r 51 (if j = 11 then 0 else j + 1) := fun j hj => by
      rw [h7, si_r, sr_r]
      by_cases e : j = 11
      · rw [if_pos ⟨rfl, e⟩, if_pos e, ha]
      · rw [if_neg (by omega), if_neg e, t2 j (by omega)]
    have r69 : ∀ j, M7.r 69 j = M.r 69 j := fun j => f7.r _ _ (by omega)
    have sl7 : ∀ s', s' < 14 → slt M7 s' = slt M (if s' < 12 then (if s' = 11 then 0 else s' + 1) else s') := by
      intro s' hs'
      unfold slt
      by_cases q : s' < 12
      · rw [if_pos q, r51 s' q, if_pos q]
        by_cases e : s' = 11
        · rw [if_pos e, if_pos (by omega)]
        · rw [if_neg e, if_pos (by omega)]
      · rw [if_neg q, r69, if_neg q, if_neg q]
    have D7 : DX M7 := by
      intro s1 hs1 a1 ha1
      rw [sl7 s1 hs1] at ha1
      have b1 : (if s1 < 12 then (if s1 = 11 then 0 else s1 + 1) else s1) < 14 := by split <;> (try split) <;> omega
      obtain ⟨⟨g1, g2⟩, g3⟩ := hd _ b1 a1 ha1
      refine ⟨⟨by rw [f7.1]; exact g1, g2.fr f7 (fun j _ => by omega)⟩, fun s2 hs2 hne e => ?_⟩
      rw [sl7 s2 hs2] at e
      refine g3 _ ?_ ?_ e
      · split <;> (try split) <;> omega
      · intro e9
        apply hne
        revert e9
        split <;> split <;> (try split) <;> (try split) <;> omega
    have X7 : CX C M7 := h.fr f7 sh51 (fun o j q => by omega)
    have K7 : KX C ch K M7 := hK.fr hd f7 (fun j => by omega) (fun j => by omega) (by omega) (fun o j q => by omega)
    have i7 : M7.i 20 43 = zn 11 := by rw [h7, si_i, if_pos ⟨rfl, rfl⟩]
    obtain ⟨M', e', f', D', U', K'⟩ := xs_putFin X7 D7 K7 (V := fun k => U (k + 1)) hs (hS.fr f7 (fun j _ => by omega)) (hv.fr f7 (fun o j q => by unfold rdc at q; omega)) hB (show 11 < 12 by omega) i7 (by rw [r51 11 (by omega), if_pos rfl]; exact ha) (fun k hk => by
      obtain ⟨q0, a1, q1, q2⟩ := hU.2.2 (k + 1) (by omega)
      have q3 := (hd (k + 1) (by omega) a1 (by unfold slt; rw [if_pos (by omega)]; exact q1)).1.1
      exact ⟨q0, a1, by rw [r51 k (by omega), if_neg (by omega)]; exact q1, q2.fr f7 (fun o j q => by unfold rdc at q; omega)⟩)
    refine ⟨M', a, ?_, ?_, Or.inr ⟨da1, da2⟩, by rw [f'.1, f7.1]; omega, by rw [f'.2.1, f7.2.1]; omega, D', by rw [epN, epU]; exact U', K'⟩
    · have hk2 : M2.k a = (1, 0) := by rw [f2.k]; exact hka
      have i2 : (M2.sr 51 11 (some a)).i 20 43 = zn 12 := by rw [sr_i, f2.i _ _ (by omega), e12]; rfl
      have z11 : zn 12 - 1 = zn 11 := by decide
      have ixl : ix 11 = 11 := ix_zn (k := 11) (by omega)
      have ckl : ∀ {x : Option (Unit × PM)}, ck 11 12 x = x := fun {x} => ck_zn (a := 11) (by omega) (by omega)
      have r7 : M7.r 51 11 = some a := by rw [r51 11 (by omega), if_pos rfl]; exact ha
      unfold x_putsBy
      rw [jn_u, if_pos e12, show (ck 0 12 : Option (Unit × PM) → Option (Unit × PM)) = fun x => x from funext fun x => ck_zn (a := 0) (by omega) (by omega), lt_u, ix0, ha]
      refine e2.trans ?_
      show (rf (some a) fun a4 => _) = _
      rw [rf_s, ckl, ckk_k hk2, lt_u, ixl, lt_u, i2, z11, ← h7]
      rw [i7, ck_zn (by omega) (by omega), lt_u, ix_zn (by omega), r7, jn_u, nl_s]
      exact e'
    · exact (f7.mo (d := pcl a) (fun o j q => by unfold pcl; omega)).ge.tr (f'.mo (d := pcl a) (fun o j q => by unfold pcl; omega)).ge
  · have e12 : ¬ M.i 20 43 = 12 := by
      rw [h43]
      intro w
      have w2 : zn n = zn 12 := w
      have := zn_inj (by omega) (by omega) w2
      omega
    have epN : psN n = n + 1 := if_neg n12
    have epU : psU n U B = fun k => if k = n then B else U k := if_neg n12
    rcases hsl : M.r 51 n with _ | a
    · -- a new road
      obtain ⟨M6, e6, n6, w6, R6, G6⟩ := xs_rdinit h0
      obtain ⟨M7, h7⟩ : ∃ M7, M7 = M6.sr 51 n (some M.n) := ⟨_, rfl⟩
      have G7 : Ge (fun o _ => o = 51) M M7 := (G6.mo (fun _ _ q => q.elim)).tr (by rw [h7]; exact (Fq.sr (c := fun o _ => o = 51) Fq.rf rfl).ge)
      have n7 : M7.n = M.n + 5 := by rw [h7]; exact n6
      have r51 : ∀ j, M7.r 51 j = if j = n then some M.n else M.r 51 j := fun j => by
        rw [h7, sr_r]
        by_cases e : j = n
        · rw [if_pos ⟨rfl, e⟩, if_pos e]
        · rw [if_neg (by omega), if_neg e, G6.r 51 j (by omega) id]
      have r69 : ∀ j, M7.r 69 j = M.r 69 j := fun j => G7.r 69 j (by omega) (by omega)
      have R7 : RdS M7 M.n := by
        rw [h7]
        exact R6.fr (c := fun o _ => o = 51) (Fq.sr (c := fun o _ => o = 51) Fq.rf rfl) (fun j _ => by omega)
      have sl7 : ∀ s', s' < 14 → slt M7 s' = if s' = n then some M.n else slt M s' := by
        intro s' hs'
        unfold slt
        by_cases q : s' < 12
        · rw [if_pos q, r51, if_pos q]
        · rw [if_neg q, r69, if_neg (by omega), if_neg q]
      have D7 : DX M7 := by
        intro s1 hs1 a1 ha1
        rw [sl7 s1 hs1] at ha1
        by_cases q : s1 = n
        · rw [if_pos q] at ha1
          cases ha1
          refine ⟨⟨⟨h0, by omega⟩, R7⟩, fun s2 hs2 hne e => ?_⟩
          rw [sl7 s2 hs2, if_neg (by omega)] at e
          have := (hd s2 hs2 _ e).1.1.2
          omega
        · rw [if_neg q] at ha1
          obtain ⟨⟨g1, g2⟩, g3⟩ := hd s1 hs1 a1 ha1
          refine ⟨⟨⟨g1.1, by omega⟩, g2.ge g1.2 G7 (fun j _ => by omega)⟩, fun s2 hs2 hne e => ?_⟩
          rw [sl7 s2 hs2] at e
          by_cases q2 : s2 = n
          · rw [if_pos q2] at e
            cases e
            omega
          · rw [if_neg q2] at e
            exact g3 s2 hs2 hne e
      have hS7 : RdS M7 s := hS.ge (by omega) G7 (fun j _ => by omega)
      have hv7 : RvX s B M7 := hv.ge (by omega) G7 (fun o j q => by unfold rdc at q; omega)
      have i7 : M7.i 20 43 = zn n := by rw [G7.i 20 43 (by omega) (by omega)]; exact h43
      have X7 : CX C M7 := h.ge G7 (fun q hq g => sh51 q hq (Or.inr g)) (h.ru.ge h0 G7 (fun o j q => by omega)) (fun o j q => by omega)
      have K7 : KX C ch K M7 := hK.ge h0 hd G7 (fun j => by omega) (fun j => by omega) (by omega) (fun o j q => by omega)
      obtain ⟨M', e', f', D', U', K'⟩ := xs_putFin X7 D7 K7 (V := U) hs hS7 hv7 hB (show n < 12 by omega) i7 (by rw [r51, if_pos rfl]) (fun k hk => by
        obtain ⟨q0, a1, q1, q2⟩ := hU.2.2 k hk
        have q3 := (hd k (by omega) a1 (by unfold slt; rw [if_pos (by omega)]; exact q1)).1.1
        exact ⟨q0, a1, by rw [r51, if_neg (by omega)]; exact q1, q2.ge q3.2 G7 (fun o j q => by unfold rdc at q; omega)⟩)
      have GG : Ge (pcl M.n) M M' := (G7.mo (d := pcl M.n) (fun o j q => Or.inr (Or.inl q))).tr (f'.mo (d := pcl M.n) (fun o j q => by unfold pcl; omega)).ge
      refine ⟨M', M.n, ?_, GG, Or.inl (Nat.le_refl _), by rw [f'.1]; omega, ?_, D', by rw [epN, epU]; exact U', K'⟩
      · unfold x_putsBy
        rw [jn_u, if_neg e12]
        show (ck (M.i 20 43) 12 <| _) = _
        have hk6 : M6.k M.n = (1, 0) := R6.1
        have key : ∀ J : PM → Option (Unit × PM), (jn J fun j2 => nl (M.r 51 (ix (M.i 20 43))) (lt (M.nw 1 0 6) fun M5 => bd (rd_init M.n M5) fun _ M6 => ck (M.i 20 43) 12 <| ckk M6 M.n 1 <| lt (M6.sr 51 (ix (M.i 20 43)) (some M.n)) fun M7 => j2 M7) fun a2 => j2 M) = J M7 := by
          intro J
          rw [jn_u, h43, ix_zn (by omega), hsl, nl_n, lt_u, bde e6, ck_zn (by omega) (by omega), ckk_k hk6, lt_u, ← h7]
        rw [h43, ck_zn (by omega) (by omega), lt_u, ← h43, key]
        exact e'
      · rw [f'.2.1, h7, sr_w, w6]; omega
    · obtain ⟨⟨da1, da2⟩, da3⟩ := hd n (by omega) a (by unfold slt; rw [if_pos (by omega)]; exact hsl)
      obtain ⟨M', e', f', D', U', K'⟩ := xs_putFin h hd hK (V := U) hs hS hv hB (show n < 12 by omega) h43 hsl hU.2.2
      refine ⟨M', a, ?_, (f'.mo (d := pcl a) (fun o j q => by unfold pcl; omega)).ge, Or.inr ⟨da1, da2⟩, by rw [f'.1]; omega, by rw [f'.2.1]; omega, D', by rw [epN, epU]; exact U', K'⟩
      unfold x_putsBy
      rw [jn_u, if_neg e12]
      show (ck (M.i 20 43) 12 <| _) = _
      have key : ∀ J : PM → Option (Unit × PM), (jn J fun j2 => nl (M.r 51 (ix (M.i 20 43))) (lt (M.nw 1 0 6) fun M5 => bd (rd_init M.n M5) fun _ M6 => ck (M.i 20 43) 12 <| ckk M6 M.n 1 <| lt (M6.sr 51 (ix (M.i 20 43)) (some M.n)) fun M7 => j2 M7) fun a2 => j2 M) = J M := by
        intro J
        rw [jn_u, h43, ix_zn (by omega), hsl, nl_s]
      rw [h43, ck_zn (by omega) (by omega), lt_u, ← h43, key]
      exact e'
end
