set_option maxRecDepth 100000
/-! HEARD -/
def qP (p : Nat) : Int64 := (zn p).toInt64
def qQ (p : Nat) : Int64 := (10 - zn p).toInt64
def hxI (p j : Nat) (w0 : Int64) (k : Nat) : Int64 := itr (fun i s => s * (if j ≤ i then qP p else qQ p)) k w0
def hxS (len p : Nat) (k : Nat) : Int64 × Int64 := itr (fun j s => (s.1 + hxI p j s.2 len, s.2 * (zn len - zn j).toInt64 / (zn j + 1).toInt64)) k (0, 1)
def hpw (c : Int64) (k : Nat) : Int64 := itr (fun _ s => s * c) k 1
def hmS (len p : Nat) (k : Nat) : Int64 × Int64 := itr (fun j s => (s.1 + (s.2 * hpw (qQ p) j) * hpw (qP p) (len - j), s.2 * (zn len - zn j).toInt64 / (zn j + 1).toInt64)) k (0, 1)
theorem hx_hm : ∀ len, len < 7 → ∀ p, p < 11 → ∀ k, k < 4 → k ≤ len + 1 → hxS len p k = hmS len p k := by decide +kernel
def cmn : Nat → Int64 → Int64 → Option Int64
  | 0, _, _ => none
  | n + 1, a, b => if b = 0 then some a else cmn n b (a - a / b * b)
def cmnV (len p k : Nat) : Int64 := match cmn 120 (hxS len p k).1 (hpw 10 len) with
  | some c => c
  | none => 0
theorem cmn_ok : ∀ len, len < 7 → ∀ p, p < 11 → ∀ k, k < 4 → k ≤ len + 1 → cmn 120 (hxS len p k).1 (hpw 10 len) = some (cmnV len p k) ∧ ¬ cmnV len p k = 0 := by decide +kernel
theorem lgz (b : Int64) : (lg_cmp b 0 = 0) = (b = 0) := by
  unfold lg_cmp
  by_cases h : b > 0
  · rw [if_pos h]
    apply propext
    constructor
    · intro w; exact absurd w (by decide)
    · intro w; rw [w] at h; exact absurd h (by decide)
  · rw [if_neg h]
    by_cases g : b = 0
    · rw [if_pos g]
      exact propext ⟨fun _ => g, fun _ => rfl⟩
    · rw [if_neg g]
      exact propext ⟨fun w => absurd w (by decide), fun w => absurd w g⟩
theorem xs_gcd : ∀ (n : Nat) (a b : Int64) (M : PM), G_x_common n a b M = (cmn n a b).map (fun c => (c, M)) := by
  intro n
  induction n with
  | zero => intro a b M; rfl
  | succ n ih =>
    intro a b M
    show b_x_common (G_x_common n) a b M = _
    unfold b_x_common cmn
    simp only [lgz]
    by_cases h : b = 0
    · rw [if_pos h, if_pos h]
      rfl
    · rw [if_neg h, if_neg h, ckb_t h, ih]
      generalize cmn n b (a - a / b * b) = q
      cases q <;> rfl
theorem ms_gcd : ∀ (n : Nat) (a b : Int64) (M : PM), G_m_common n a b M = (cmn n a b).map (fun c => (c, M)) := by
  intro n
  induction n with
  | zero => intro a b M; rfl
  | succ n ih =>
    intro a b M
    show b_m_common (G_m_common n) a b M = _
    unfold b_m_common cmn
    simp only [lgz]
    by_cases h : b = 0
    · rw [if_pos h, if_pos h]
      rfl
    · rw [if_neg h, if_neg h, ckb_t h, ih]
      generalize cmn n b (a - a / b * b) = q
      cases q <;> rfl
theorem zj1 (j : Nat) (h : j < 1000) : ¬ (Int32.toInt64 (zn j + 1)) = 0 := by
  intro w
  have w2 := congrArg Int64.toInt w
  rw [Int32.toInt_toInt64, show zn j + 1 = zn (j + 1) from zn_addl j 1, zn_int (by omega), show ((0 : Int64).toInt) = 0 from by decide] at w2
  omega
section
variable {C : SV} {A : Nat → Int32} {M M1 : PM} {l : List Int64}
theorem xs_hd51 (len : Nat) (hl : len ≤ 6) (c2 c3 : Int32) (c5 : Int64) (Kc : Int64 → PM → Option (Int32 × PM)) : x_heard_L51 c2 c3 (zn len) c5 Kc FU 1 0 M = Kc (hpw 10 len) M := by
  refine nlp (fun nn k s => x_heard_L51 c2 c3 (zn len) c5 Kc nn s (zn k) M) len FU (FU_lt (by omega)) (fun _ s => s * 10) 1 _ (fun nn k hk => ?_) (fun nn => ?_)
  · show x_heard_L51 c2 c3 (zn len) c5 Kc (nn + 1) (hpw 10 k) (zn k) M = x_heard_L51 c2 c3 (zn len) c5 Kc nn (hpw 10 k * 10) (zn (k + 1)) M
    rw [x_heard_L51, if_neg (by rw [zn_le (by omega) (by omega)]; omega), lt_u, lt_u, zn_addl]
  · show x_heard_L51 c2 c3 (zn len) c5 Kc (nn + 1) (hpw 10 len) (zn len) M = _
    rw [x_heard_L51, if_pos (Int32.le_refl _)]
theorem xs_hd98 (len p j : Nat) (hl : len ≤ 6) (hj : j ≤ 6) (c3 : Int32) (c5 c7 w0 : Int64) (Kc : Int64 → PM → Option (Int32 × PM)) : x_heard_L98 (zn p) c3 (zn len) c5 c7 w0 (zn j) Kc FU w0 0 M = Kc (hxI p j w0 len) M := by
  refine nlp (fun nn k s => x_heard_L98 (zn p) c3 (zn len) c5 c7 w0 (zn j) Kc nn s (zn k) M) len FU (FU_lt (by omega)) (fun i s => s * (if j ≤ i then qP p else qQ p)) w0 _ (fun nn k hk => ?_) (fun nn => ?_)
  · show x_heard_L98 (zn p) c3 (zn len) c5 c7 w0 (zn j) Kc (nn + 1) (hxI p j w0 k) (zn k) M = x_heard_L98 (zn p) c3 (zn len) c5 c7 w0 (zn j) Kc nn (hxI p j w0 k * (if j ≤ k then qP p else qQ p)) (zn (k + 1)) M
    (rw [x_heard_L98, if_neg (by rw [zn_le (by omega) (by omega)]; omega)]; (try simp only [jn_u]))
    by_cases g : j ≤ k
    · rw [if_pos (by rw [zn_le (by omega) (by omega)]; exact g), if_pos g, lt_u, lt_u, zn_addl]
      rfl
    · rw [if_neg (by rw [zn_le (by omega) (by omega)]; exact g), if_neg g, lt_u, lt_u, zn_addl]
      rfl
  · show x_heard_L98 (zn p) c3 (zn len) c5 c7 w0 (zn j) Kc (nn + 1) (hxI p j w0 len) (zn len) M = _
    rw [x_heard_L98, if_pos (Int32.le_refl _)]
theorem xs_hd78 (len p n : Nat) (hl : len ≤ 6) (hn : n ≤ 2) (c7 : Int64) (Kc : Int64 → PM → Option (Int32 × PM)) : x_heard_L78 (zn p) (zn n) (zn len) c7 Kc FU 0 1 0 M = Kc (hxS len p (min n len + 1)).1 M := by
  refine nlp (fun nn k s => x_heard_L78 (zn p) (zn n) (zn len) c7 Kc nn s.1 s.2 (zn k) M) (min n len + 1) FU (FU_lt (by omega)) (fun j s => (s.1 + hxI p j s.2 len, s.2 * (zn len - zn j).toInt64 / (zn j + 1).toInt64)) ((0 : Int64), (1 : Int64)) _ (fun nn k hk => ?_) (fun nn => ?_)
  · show x_heard_L78 (zn p) (zn n) (zn len) c7 Kc (nn + 1) (hxS len p k).1 (hxS len p k).2 (zn k) M = x_heard_L78 (zn p) (zn n) (zn len) c7 Kc nn ((hxS len p k).1 + hxI p k (hxS len p k).2 len) ((hxS len p k).2 * (zn len - zn k).toInt64 / (zn k + 1).toInt64) (zn (k + 1)) M
    (rw [x_heard_L78]; (try simp only [jn_u]); rw [if_neg (by rw [zn_lt (by omega) (by omega)]; omega), if_neg (by rw [zn_lt (by omega) (by omega)]; omega), xs_hd98 len p k hl (by omega), lt_u, ckb_t (zj1 k (by omega)), lt_u, lt_u, zn_addl])
  · show x_heard_L78 (zn p) (zn n) (zn len) c7 Kc (nn + 1) (hxS len p (min n len + 1)).1 (hxS len p (min n len + 1)).2 (zn (min n len + 1)) M = _
    (rw [x_heard_L78]; (try simp only [jn_u]))
    by_cases g : n < min n len + 1
    · rw [if_pos (by rw [zn_lt (by omega) (by omega)]; exact g)]
    · rw [if_neg (by rw [zn_lt (by omega) (by omega)]; exact g), if_pos (by rw [zn_lt (by omega) (by omega)]; omega)]
theorem ms_pw (c : Int64) (k : Nat) (hk : k ≤ 100) (M : PM) : m_power c (zn k) M = some (hpw c k, M) := by
  unfold m_power
  refine nlp (fun nn i s => m_power_L5 c (zn k) (fun (w3 : Int64) (M2 : PM) => some (w3, M2)) nn s (zn i) M) k FU (FU_lt (by omega)) (fun _ s => s * c) 1 _ (fun nn i hi => ?_) (fun nn => ?_)
  · show m_power_L5 c (zn k) _ (nn + 1) (hpw c i) (zn i) M = m_power_L5 c (zn k) _ nn (hpw c i * c) (zn (i + 1)) M
    rw [m_power_L5, if_neg (by rw [zn_le (by omega) (by omega)]; omega), lt_u, lt_u, zn_addl]
  · show m_power_L5 c (zn k) _ (nn + 1) (hpw c k) (zn k) M = _
    rw [m_power_L5, if_pos (Int32.le_refl _)]
theorem ms_hd43 (h : CY 83 C M) {w : Nat} (hw : w < C.nw) (p n : Nat) (hn : n ≤ 2) (Kc : Int64 → PM → Option (Int32 × PM)) : m_heard_L43 (zn w) (zn p) (zn n) Kc FU 0 1 0 M = Kc (hmS (C.len w) p (min n (C.len w) + 1)).1 M := by
  have b1 := h.ok.nw10
  have b2 := h.ok.len6 w hw
  have hl := h.len w hw
  refine nlp (fun nn k s => m_heard_L43 (zn w) (zn p) (zn n) Kc nn s.1 s.2 (zn k) M) (min n (C.len w) + 1) FU (FU_lt (by omega)) (fun j s => (s.1 + (s.2 * hpw (qQ p) j) * hpw (qP p) (C.len w - j), s.2 * (zn (C.len w) - zn j).toInt64 / (zn j + 1).toInt64)) ((0 : Int64), (1 : Int64)) _ (fun nn k hk => ?_) (fun nn => ?_)
  · have es : zn (C.len w) - zn k = zn (C.len w - k) := zn_sub (by omega)
    show m_heard_L43 (zn w) (zn p) (zn n) Kc (nn + 1) (hmS (C.len w) p k).1 (hmS (C.len w) p k).2 (zn k) M = m_heard_L43 (zn w) (zn p) (zn n) Kc nn ((hmS (C.len w) p k).1 + ((hmS (C.len w) p k).2 * hpw (qQ p) k) * hpw (qP p) (C.len w - k)) ((hmS (C.len w) p k).2 * (zn (C.len w) - zn k).toInt64 / (zn k + 1).toInt64) (zn (k + 1)) M
    rw [m_heard_L43, ck_zn (by omega) (by omega), ix_zn (by omega), hl, imin_zn (by omega) (by omega), if_neg (by rw [zn_lt (by omega) (by omega)]; omega), bde (ms_pw _ k (by omega) M), ck_zn (by omega) (by omega), hl, es, bde (ms_pw _ (C.len w - k) (by omega) M), lt_u, ck_zn (by omega) (by omega), ckb_t (zj1 k (by omega)), hl, es, lt_u, lt_u, zn_addl]
    rfl
  · show m_heard_L43 (zn w) (zn p) (zn n) Kc (nn + 1) (hmS (C.len w) p (min n (C.len w) + 1)).1 (hmS (C.len w) p (min n (C.len w) + 1)).2 (zn (min n (C.len w) + 1)) M = _
    rw [m_heard_L43, ck_zn (by omega) (by omega), ix_zn (by omega), hl, imin_zn (by omega) (by omega), if_pos (by rw [zn_lt (by omega) (by omega)]; omega)]
theorem xq_heard {w p n : Nat} (hw : w < C.nw) (hp : p ≤ 10) (hn : n ≤ 2) : QX C A l [(hxS (C.len w) p (min n (C.len w) + 1)).1 / cmnV (C.len w) p (min n (C.len w) + 1), hpw 10 (C.len w) / cmnV (C.len w) p (min n (C.len w) + 1)] 0 (x_heard (zn w) (zn p) (zn n)) := by
  intro M h ha _ hl
  have b1 := h.ok.nw10
  have b2 := h.ok.len6 w hw
  obtain ⟨c1, c2⟩ := cmn_ok (C.len w) (by omega) p (by omega) (min n (C.len w) + 1) (by omega) (by omega)
  obtain ⟨M1, e1, f1, l1⟩ := xs_tell0 M ((hxS (C.len w) p (min n (C.len w) + 1)).1 / cmnV (C.len w) p (min n (C.len w) + 1))
  obtain ⟨M2, e2, f2, l2⟩ := xs_tell1 l1 (hpw 10 (C.len w) / cmnV (C.len w) p (min n (C.len w) + 1))
  refine ⟨M2, ?_, f1.wx.tr f2.wx, l2⟩
  have eg : x_common (hxS (C.len w) p (min n (C.len w) + 1)).1 (hpw 10 (C.len w)) M = some (cmnV (C.len w) p (min n (C.len w) + 1), M) := by
    unfold x_common
    rw [xs_gcd, c1]
    rfl
  unfold x_heard
  rw [bde (xt_word h hw), if_neg (by decide), bde (xt_10 hp M), if_neg (by decide), bde (xt_2 hn M), if_neg (by decide), ck_zn (by omega) (by omega), ix_zn (by omega), h.len w hw, lt_u, xs_hd51 _ b2, xs_hd78 _ p n b2 hn, bde eg, lt_u, ckb_t c2, bde e1, ckb_t c2, bde e2]
theorem yq_heard {w p n : Nat} (hw : w < C.nw) (hp : p ≤ 10) (hn : n ≤ 2) : QY C A l [(hxS (C.len w) p (min n (C.len w) + 1)).1 / cmnV (C.len w) p (min n (C.len w) + 1), hpw 10 (C.len w) / cmnV (C.len w) p (min n (C.len w) + 1)] 0 (m_heard (zn w) (zn p) (zn n)) := by
  intro M h ha _ hl
  have b1 := h.ok.nw10
  have b2 := h.ok.len6 w hw
  have h' := h.fy (f13 (M := M))
  obtain ⟨c1, c2⟩ := cmn_ok (C.len w) (by omega) p (by omega) (min n (C.len w) + 1) (by omega) (by omega)
  obtain ⟨M1, e1, f1, l1⟩ := ms_tell0 (M.si 72 13 0) ((hxS (C.len w) p (min n (C.len w) + 1)).1 / cmnV (C.len w) p (min n (C.len w) + 1))
  obtain ⟨M2, e2, f2, l2⟩ := ms_tell1 l1 (hpw 10 (C.len w) / cmnV (C.len w) p (min n (C.len w) + 1))
  refine ⟨M2, ?_, (f13.tr f1.wy).tr f2.wy, l2⟩
  obtain ⟨N, hN⟩ : ∃ N, N = M.si 72 13 0 := ⟨_, rfl⟩
  rw [← hN] at h' e1
  have eg : m_common (hxS (C.len w) p (min n (C.len w) + 1)).1 (hpw 10 (C.len w)) N = some (cmnV (C.len w) p (min n (C.len w) + 1), N) := by
    unfold m_common
    rw [ms_gcd, c1]
    rfl
  unfold m_heard
  rw [lt_u, ← hN, bde (mt_word h' hw), if_neg (by decide), bde (mt_10 hp _), if_neg (by decide), bde (mt_2 hn _), if_neg (by decide), ms_hd43 h' hw p n hn, ← hx_hm _ (by omega) p (by omega) _ (by omega) (by omega), ck_zn (by omega) (by omega), ix_zn (by omega), h'.len w hw, bde (ms_pw 10 _ (by omega) N), bde eg, lt_u, ckb_t c2, bde e1, ckb_t c2, bde e2]
theorem call_heard (p q r : Int32) : Call (x_heard p q r) (m_heard p q r) := by
  refine Call.of (fun C A l hC hA hl => ?_)
  have b1 := hC.nw10
  have bad : (∀ M, CX C M → x_heard p q r M = some (-1, M)) → (∀ M, CY 83 C M → m_heard p q r M = some (-1, M.si 72 13 0)) → ∃ v l', l'.length ≤ 15 ∧ QX C A l l' v (x_heard p q r) ∧ QY C A l l' v (m_heard p q r) := fun h1 h2 =>
    ⟨-1, l, hl, fun M h ha _ hx => ⟨M, h1 M h, Fq.rf, hx⟩, fun M h ha _ hx => ⟨M.si 72 13 0, h2 M h, f13, ly13 hx⟩⟩
  rcases dm_or (show C.nw < 2147483648 by omega) p with ⟨w, hw, rfl⟩ | hn
  case inr =>
    refine bad (fun M h => ?_) (fun M h => ?_)
    · unfold x_heard
      rw [bde (xn_word h hn), if_pos rfl]
    · unfold m_heard
      rw [lt_u, bde (mn_word (h.fy f13) hn), if_pos rfl]
  rcases dl_or (n := 10) (by omega) q with ⟨s, hs, rfl⟩ | hn
  case inr =>
    refine bad (fun M h => ?_) (fun M h => ?_)
    · unfold x_heard
      rw [bde (xt_word h hw), if_neg (by decide), bde (xn_10 hn M), if_pos rfl]
    · unfold m_heard
      rw [lt_u, bde (mt_word (h.fy f13) hw), if_neg (by decide), bde (mn_10 hn _), if_pos rfl]
  rcases dl_or (n := 2) (by omega) r with ⟨n, hn2, rfl⟩ | hn
  case inr =>
    refine bad (fun M h => ?_) (fun M h => ?_)
    · unfold x_heard
      rw [bde (xt_word h hw), if_neg (by decide), bde (xt_10 hs M), if_neg (by decide), bde (xn_2 hn M), if_pos rfl]
    · unfold m_heard
      rw [lt_u, bde (mt_word (h.fy f13) hw), if_neg (by decide), bde (mt_10 hs _), if_neg (by decide), bde (mn_2 hn _), if_pos rfl]
  exact ⟨0, _, two15 _ _, xq_heard hw hs hn2, yq_heard hw hs hn2⟩
end
