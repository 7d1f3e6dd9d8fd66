set_option maxRecDepth 100000
/-! WALKS AND SAYINGS ON A ROAD -/
def wlkA (A : Nat → Int32) (t : Nat) (g : Int32) : Nat → Int32 := fun j => if j = t then g else if j = 12 then A 12 + 1 else A j
def ofp (C : SV) (w : Nat) (v : Int32) (k : Nat) : Int32 := itr (fun k s => s + (if vow (C.lt w k) = v then 1 else 0)) k 0
/-- a road behind a saying, at station s -/
def sayA (C : SV) (A : Nat → Int32) (t w s : Nat) : Nat → Int32 := fun j =>
  if j = 4 + t then A (4 + t) - tol C w (A t) (A 12) else if j = 8 + t then A (8 + t) + tol C w (A t) (A 12) else if j = 13 then A 13 ||| dob C (A 13) (zn t) (A t) w else if 14 + 5 * s ≤ j ∧ j < 14 + 5 * s + 5 then A j + oft C w (zn (j - (14 + 5 * s))) else A j
/-- the system's saying writes -/
abbrev sxc (a o j : Nat) : Prop := ca o j ∨ rdc a o j ∨ (o = 20 ∧ j = 44)
theorem bde {α β : Type} {x : Option (α × PM)} {v : α} {M : PM} (e : x = some (v, M)) (f : α → PM → Option β) : bd x f = f v M := by
  rw [e, bd_s]
theorem rfe {α : Type} {r : Option Nat} {a : Nat} (e : r = some a) (f : Nat → Option α) : rf r f = f a := by
  rw [e, rf_s]
theorem nle {α : Type} {r : Option Nat} {a : Nat} (e : r = some a) (x : α) (f : Nat → α) : nl r x f = f a := by
  rw [e, nl_s]
theorem nln {α : Type} {r : Option Nat} (e : r = none) (x : α) (f : Nat → α) : nl r x f = x := by
  rw [e, nl_n]
theorem cka_k {α : Type} {M : PM} {a c n t : Nat} {x : Option α} (h : M.k a = (c, n)) (ht : t < n) (ht2 : t < 2147483648) : cka M a c (zn t) x = x := by
  unfold cka
  rw [h]
  show (if c = c then ck (zn t) n x else none) = x
  rw [if_pos rfl, ck_zn ht ht2]
theorem cka_l {α : Type} {M : PM} {a c n t : Nat} {x : Option α} (h : M.k a = (c, n)) (ht : (OfNat.ofNat t : Nat) < n) (ht2 : (OfNat.ofNat t : Nat) < 2147483648) : cka M a c (no_index (OfNat.ofNat t) : Int32) x = x := cka_k h ht ht2
section
variable {C : SV} {M : PM} {ra : Nat}
theorem xt_trav (h : CX C M) {t : Nat} (ht : t < C.nt) : x_isTraveller (zn t) M = some (1, M) := by
  have := h.ok.nt4
  rw [xs_isTraveller h, if_pos (by rw [dm_t ht (by omega)]; trivial)]
theorem xt_word (h : CX C M) {t : Nat} (ht : t < C.nw) : x_isWord (zn t) M = some (1, M) := by
  have := h.ok.nw10
  rw [xs_isWord h, if_pos (by rw [dm_t ht (by omega)]; trivial)]
theorem xt_stat (h : CX C M) {t : Nat} (ht : t < C.ns) : x_isStation (zn t) M = some (1, M) := by
  have := h.ok.ns6
  rw [xs_isStation h, if_pos (by rw [dm_t ht (by omega)]; trivial)]
theorem xn_trav (h : CX C M) {p : Int32} (q : ¬ (0 ≤ p ∧ p ≤ zn C.nt - 1)) : x_isTraveller p M = some (0, M) := by
  rw [xs_isTraveller h, if_neg q]
theorem xn_word (h : CX C M) {p : Int32} (q : ¬ (0 ≤ p ∧ p ≤ zn C.nw - 1)) : x_isWord p M = some (0, M) := by
  rw [xs_isWord h, if_neg q]
theorem xn_stat (h : CX C M) {p : Int32} (q : ¬ (0 ≤ p ∧ p ≤ zn C.ns - 1)) : x_isStation p M = some (0, M) := by
  rw [xs_isStation h, if_neg q]
theorem mt_one (h : CY ra C M) {t : Nat} (ht : t < C.nt) : m_isOne (zn t) M = some (1, M) := by
  have := h.ok.nt4
  rw [ms_isOne h, if_pos (by rw [dm_t ht (by omega)]; trivial)]
theorem mt_word (h : CY ra C M) {t : Nat} (ht : t < C.nw) : m_isWord (zn t) M = some (1, M) := by
  have := h.ok.nw10
  rw [ms_isWord h, if_pos (by rw [dm_t ht (by omega)]; trivial)]
theorem mt_stat (h : CY ra C M) {t : Nat} (ht : t < C.ns) : m_isStation (zn t) M = some (1, M) := by
  have := h.ok.ns6
  rw [ms_isStation h, if_pos (by rw [dm_t ht (by omega)]; trivial)]
theorem mn_one (h : CY ra C M) {p : Int32} (q : ¬ (0 ≤ p ∧ p ≤ zn C.nt - 1)) : m_isOne p M = some (0, M) := by
  rw [ms_isOne h, if_neg q]
theorem mn_word (h : CY ra C M) {p : Int32} (q : ¬ (0 ≤ p ∧ p ≤ zn C.nw - 1)) : m_isWord p M = some (0, M) := by
  rw [ms_isWord h, if_neg q]
theorem mn_stat (h : CY ra C M) {p : Int32} (q : ¬ (0 ≤ p ∧ p ≤ zn C.ns - 1)) : m_isStation p M = some (0, M) := by
  rw [ms_isStation h, if_neg q]
theorem xt_in01 {y : Nat} (hy : y ≤ 1) (M : PM) : x_in (zn y).toInt64 0 1 M = some (1, M) := by
  rw [x_in_01, if_pos]
  rw [l_le_zn (by omega) (by omega), zn_le_l (by omega) (by omega)]
  omega
theorem mt_in01 {y : Nat} (hy : y ≤ 1) (M : PM) : m_in (zn y) 0 1 M = some (1, M) := by
  rw [m_in32, if_pos]
  rw [l_le_zn (by omega) (by omega), zn_le_l (by omega) (by omega)]
  omega
end
section
variable {C : SV} {M : PM} {a : Nat} {A : Nat → Int32}
theorem CX.rd {M' : PM} (h : CX C M) (ha : a = 21 ∨ a = 26) (f : Fq (rdc a) M M') : CX C M' := by
  refine h.fr f ?_ (fun o j q => by unfold rdc; omega)
  rcases ha with ha | ha <;> subst ha <;> decide +kernel
theorem CX.sx {M' : PM} (h : CX C M) (ha : a = 21 ∨ a = 26) (f : Fq (sxc a) M M') : CX C M' := by
  refine h.fr f ?_ (fun o j q => by unfold sxc ca rdc; omega)
  rcases ha with ha | ha <;> subst ha <;> decide +kernel
theorem xs_walks (h : CX C M) (hs : RdS M a) (hv : RvX a A M) {t y s : Nat} (ht : t < C.nt) (hy : y ≤ 1) (hA : A t = zn s) (hs6 : s < C.ns) :
    (¬ (0 ≤ zn s + (if y = 1 then 1 else -1) ∧ zn s + (if y = 1 then 1 else -1) ≤ zn C.ns - 1) → x_walks a (zn t) (zn y) M = some (-2, M)) ∧
    (0 ≤ zn s + (if y = 1 then 1 else -1) ∧ zn s + (if y = 1 then 1 else -1) ≤ zn C.ns - 1 → ∃ M', x_walks a (zn t) (zn y) M = some (zn s + (if y = 1 then 1 else -1), M') ∧ Fq (rdc a) M M' ∧ RvX a (wlkA A t (zn s + (if y = 1 then 1 else -1))) M') := by
  have b1 := h.ok.nt4
  obtain ⟨a0, ⟨a1, a2, a3, a4⟩, a5, a6, a7, a8⟩ := hs
  obtain ⟨v1, v2, v3, v4⟩ := hv
  obtain ⟨w1, w2, w3⟩ := v1 t (by omega)
  have hy1 : (0 ≤ zn y ∧ zn y ≤ 1) = True := by
    apply eq_true
    rw [l_le_zn (by omega) (by omega), zn_le_l (by omega) (by omega)]
    omega
  have hy2 : (if zn y = 1 then (1 : Int32) else -1) = if y = 1 then 1 else -1 := by
    have : (zn y = 1) = (y = 1) := zn_eq_l (by omega) (by omega)
    simp only [this]
  have hdt : (0 ≤ zn t ∧ zn t ≤ zn C.nt - 1) = True := dm_t ht (by omega)
  obtain ⟨g, hg⟩ : ∃ g : Int32, g = zn s + (if y = 1 then 1 else -1) := ⟨_, rfl⟩
  rw [← hg]
  rw [hA] at w1
  have est : x_isStation (M.i (a + 1) (ix (zn t)) + if zn y = 1 then 1 else -1) M = some (if 0 ≤ g ∧ g ≤ zn C.ns - 1 then 1 else 0, M) := by
    rw [ix_zn (by omega), w1, hy2, ← hg, xs_isStation h]
  have est0 : ¬ (0 ≤ g ∧ g ≤ zn C.ns - 1) → x_isStation (M.i (a + 1) (ix (zn t)) + if zn y = 1 then 1 else -1) M = some (0, M) := fun q => by rw [est, if_neg q]
  have est1 : (0 ≤ g ∧ g ≤ zn C.ns - 1) → x_isStation (M.i (a + 1) (ix (zn t)) + if zn y = 1 then 1 else -1) M = some (1, M) := fun q => by rw [est, if_pos q]
  have eg : M.i (a + 1) (ix (zn t)) + (if zn y = 1 then 1 else -1) = g := by
    rw [ix_zn (by omega), w1, hy2, ← hg]
  refine ⟨fun q => ?_, fun q => ?_⟩
  · simp (disch := omega) only [x_walks, ↓lt_u, ↓jn_u, ↓bd_s, bd_s, ↓rf_s, rf_s, ↓nl_s, ↓nl_n, nl_s, nl_n, ↓reduceIte, ↓ckb24, ↓ckb256, ckb_T, ckb01, ↓ck_zn, ↓ck_l, ck_zn, ck_l, vsi_i, vsi_l, vsi_r, vsi_k, vsi_n, vsi_w, vsl_i, vsl_l, vsl_r, vsl_k, vsl_n, vsl_w, vsr_i, vsr_l, vsr_r, vsr_k, vsr_n, vsr_w, and_self, and_true, true_and, and_false, false_and, or_self, or_true, true_or, or_false, false_or, not_true_eq_false, not_false_eq_true, ne_eq, eq_self, reduceCtorEq, Nat.reduceEqDiff, Nat.reduceAdd, Nat.reduceMul, Nat.reduceSub, Nat.reduceLT, Nat.reduceLeDiff, Nat.reduceDiv, Nat.add_zero, Nat.zero_add, Nat.not_lt_zero, Nat.zero_le, Nat.le_refl, Nat.lt_irrefl, l_eq_l, m_eq_l, l_eq_m, Int32.reduceLT, Int32.reduceLE, Int32.reduceAdd, Int32.reduceSub, Int32.reduceMul, b01_0, b01_1, b10_0, z_ne_o, o_ne_z, zn_add, zn_addl, zn_ladd, zn_mull, zn_subl, ix_zn, ix_l, ck_zn, ck_l, zn_le, zn_le_l, l_le_zn, zn_lt, zn_lt_l, l_lt_zn, zn_eq, zn_eq_l, l_eq_zn, zn_eq_m, m_eq_zn, m_le_zn, zn_lt_m, imin_zn, imax_zn, zn_le_m, ↓bde (xt_trav h ht), ↓bde (xt_in01 hy M), ↓bde (est0 q), ↓ckk_k a0, ↓cka_k a5, ↓rfe a1]
  · refine ⟨(M.si (a + 1) t g).si a 4 (M.i a 4 + 1), ?_, (Fq.rf.si (by unfold rdc; omega)).si (by unfold rdc; omega), ?_, ?_, ?_, fun k hk => ?_⟩
    · have n1 : ¬ (a = a + 1 ∧ 4 = t) := by omega
      have n2 : ∀ v, (M.si (a + 1) t v).k a = (1, 0) := fun _ => a0
      simp (disch := omega) only [x_walks, ↓lt_u, ↓jn_u, ↓bd_s, bd_s, ↓rf_s, rf_s, ↓nl_s, ↓nl_n, nl_s, nl_n, ↓reduceIte, ↓ckb24, ↓ckb256, ckb_T, ckb01, ↓ck_zn, ↓ck_l, ck_zn, ck_l, vsi_i, vsi_l, vsi_r, vsi_k, vsi_n, vsi_w, vsl_i, vsl_l, vsl_r, vsl_k, vsl_n, vsl_w, vsr_i, vsr_l, vsr_r, vsr_k, vsr_n, vsr_w, and_self, and_true, true_and, and_false, false_and, or_self, or_true, true_or, or_false, false_or, not_true_eq_false, not_false_eq_true, ne_eq, eq_self, reduceCtorEq, Nat.reduceEqDiff, Nat.reduceAdd, Nat.reduceMul, Nat.reduceSub, Nat.reduceLT, Nat.reduceLeDiff, Nat.reduceDiv, Nat.add_zero, Nat.zero_add, Nat.not_lt_zero, Nat.zero_le, Nat.le_refl, Nat.lt_irrefl, l_eq_l, m_eq_l, l_eq_m, Int32.reduceLT, Int32.reduceLE, Int32.reduceAdd, Int32.reduceSub, Int32.reduceMul, b01_0, b01_1, b10_0, z_ne_o, o_ne_z, zn_add, zn_addl, zn_ladd, zn_mull, zn_subl, ix_zn, ix_l, ck_zn, ck_l, zn_le, zn_le_l, l_le_zn, zn_lt, zn_lt_l, l_lt_zn, zn_eq, zn_eq_l, l_eq_zn, zn_eq_m, m_eq_zn, m_le_zn, zn_lt_m, imin_zn, imax_zn, zn_le_m, ↓bde (xt_trav h ht), ↓bde (xt_in01 hy M), ↓bde (est1 q), ↓ckk_k a0, ↓cka_k a5, ↓rfe a1, ↓eg, ↓ckk_k (n2 _), n1]
    · intro u hu
      obtain ⟨u1, u2, u3⟩ := v1 u hu
      unfold wlkA
      simp only [vsi_i, show ¬ (a + 1 = a) by omega, show ¬ (a + 2 = a) by omega, show ¬ (a + 3 = a) by omega, show ¬ (a + 2 = a + 1) by omega, show ¬ (a + 3 = a + 1) by omega, show ¬ (u = 12) by omega, show ¬ (4 + u = t) by omega, show ¬ (8 + u = t) by omega, show ¬ (4 + u = 12) by omega, show ¬ (8 + u = 12) by omega, true_and, false_and, ↓reduceIte]
      refine ⟨?_, u2, u3⟩
      by_cases e : u = t
      · rw [if_pos e, if_pos e]
      · rw [if_neg e, if_neg e]; exact u1
    · unfold wlkA
      rw [si_i, if_pos ⟨rfl, rfl⟩, if_neg (by omega), if_pos rfl, v2]
    · unfold wlkA
      rw [si_i, if_neg (by omega), si_i, if_neg (by omega), if_neg (by omega), if_neg (by omega)]
      exact v3
    · unfold wlkA
      rw [si_i, if_neg (by omega), si_i, if_neg (by omega), if_neg (by omega), if_neg (by omega)]
      exact v4 k hk
theorem xs_walksN (h : CX C M) (p q : Int32) (hn : ¬ (0 ≤ p ∧ p ≤ zn C.nt - 1) ∨ ¬ (0 ≤ q ∧ q ≤ 1)) : x_walks a p q M = some (-1, M) := by
  unfold x_walks
  rw [xs_isTraveller h]
  by_cases g : 0 ≤ p ∧ p ≤ zn C.nt - 1
  · rcases hn with hn | hn
    · exact absurd g hn
    · simp only [bd_s, g, and_self, o_ne_z, x_in_01, hn, ↓reduceIte]
  · simp only [bd_s, g, ↓reduceIte]
/-- the book at a station while a word's letters are heard -/
def hrI (C : SV) (M0 : PM) (a : Nat) (A : Nat → Int32) (t w s : Nat) (k : Nat) (M : PM) : Prop := Fq (sxc a) M0 M ∧ RvX a (fun j => if j = 4 + t then A (4 + t) - tol C w (A t) (A 12) else if j = 8 + t then A (8 + t) + tol C w (A t) (A 12) else if 14 + 5 * s ≤ j ∧ j < 14 + 5 * s + 5 then A j + ofp C w (zn (j - (14 + 5 * s))) k else A j) M
theorem ofp_s (C : SV) (w : Nat) (v : Int32) (k : Nat) : ofp C w v (k + 1) = ofp C w v k + (if vow (C.lt w k) = v then 1 else 0) := rfl
theorem xs_hearStep (h : CX C M) (ha : a = 21 ∨ a = 26) (hs : RdS M a) {t w s : Nat} (ht : t < C.nt) (hw : w < C.nw) (hA : A t = zn s) (hs6 : s < C.ns) {K : PM → Option (Int32 × PM)} {n k : Nat} {c4 : Int32} (hk : k < C.len w) {M1 : PM} (hI : hrI C M a A t w s k M1) :
    ∃ M2, hrI C M a A t w s (k + 1) M2 ∧ x_says_L59 a (zn t) (zn w) c4 K (n + 1) (zn k) M1 = x_says_L59 a (zn t) (zn w) c4 K n (zn (k + 1)) M2 := by
  have b1 := h.ok.nt4
  have b2 := h.ok.nw10
  have b3 := h.ok.len6 w hw
  have b4 := h.ok.ns6
  obtain ⟨f, v1, v2, v3, v4⟩ := hI
  have h1 := h.sx ha f
  have hs1 := hs.fr f (fun j hj => by unfold sxc ca rdc; omega)
  obtain ⟨a0, ⟨a1, a2, a3, a4⟩, a5, a6, a7, a8⟩ := hs1
  have g1 : ¬ C.len w ≤ k := by omega
  rcases vow_or (C.lt w k) with hv | ⟨v, hv5, hv⟩
  · refine ⟨M1, ⟨f, RvX.eq ⟨v1, v2, v3, v4⟩ (fun j hj => ?_)⟩, ?_⟩
    · have e0 : ofp C w (zn (j - (14 + 5 * s))) (k + 1) = ofp C w (zn (j - (14 + 5 * s))) k := by
        rw [ofp_s, hv, if_neg (by rw [m_eq_zn (by omega)]; exact id), Int32.add_zero]
      show _ = if j = 4 + t then _ else if j = 8 + t then _ else if 14 + 5 * s ≤ j ∧ j < 14 + 5 * s + 5 then A j + ofp C w (zn (j - (14 + 5 * s))) (k + 1) else A j
      rw [e0]
    · simp (disch := omega) only [x_says_L59, lt_u, jn_u, bd_s, rf_s, nl_s, nl_n, ↓reduceIte, ↓ckb24, ↓ckb256, ckb_T, ckb01, vsi_i, vsi_l, vsi_r, vsi_k, vsi_n, vsi_w, vsl_i, vsl_l, vsl_r, vsl_k, vsl_n, vsl_w, vsr_i, vsr_l, vsr_r, vsr_k, vsr_n, vsr_w, and_self, and_true, true_and, and_false, false_and, or_self, or_true, true_or, or_false, false_or, not_true_eq_false, not_false_eq_true, ne_eq, eq_self, reduceCtorEq, Nat.reduceEqDiff, Nat.reduceAdd, Nat.reduceMul, Nat.reduceSub, Nat.reduceLT, Nat.reduceLeDiff, Nat.reduceDiv, Nat.add_zero, Nat.zero_add, Nat.not_lt_zero, Nat.zero_le, Nat.le_refl, Nat.lt_irrefl, l_eq_l, m_eq_l, l_eq_m, Int32.reduceLT, Int32.reduceLE, Int32.reduceAdd, Int32.reduceSub, Int32.reduceMul, b01_0, b01_1, b10_0, z_ne_o, o_ne_z, zn_add, zn_addl, zn_ladd, zn_mull, zn_subl, ix_zn, ix_l, ck_zn, ck_l, zn_le, zn_le_l, l_le_zn, zn_lt, zn_lt_l, l_lt_zn, zn_eq, zn_eq_l, l_eq_zn, zn_eq_m, m_eq_zn, m_le_zn, zn_lt_m, imin_zn, imax_zn, zn_le_m, h1.len, xs_vowelAt h1 hw hk, hv, g1]
  · have w1 := (v1 t (by omega)).1
    simp only [show ¬ (t = 4 + t) by omega, show ¬ (t = 8 + t) by omega, show ¬ (14 + 5 * s ≤ t ∧ t < 14 + 5 * s + 5) by omega, ↓reduceIte, hA] at w1
    refine ⟨M1.si (a + 4) (5 * s + v) (M1.i (a + 4) (5 * s + v) + 1), ⟨f.si (by unfold sxc rdc; omega), fun u hu => ?_, ?_, ?_, fun x hx => ?_⟩, ?_⟩
    · obtain ⟨u1, u2, u3⟩ := v1 u hu
      simp only [show ¬ (u = 4 + t) by omega, show ¬ (u = 8 + t) by omega, show ¬ (14 + 5 * s ≤ u ∧ u < 14 + 5 * s + 5) by omega, show ¬ (14 + 5 * s ≤ 4 + u ∧ 4 + u < 14 + 5 * s + 5) by omega, show ¬ (14 + 5 * s ≤ 8 + u ∧ 8 + u < 14 + 5 * s + 5) by omega, show ¬ (4 + u = 8 + t) by omega, show ¬ (8 + u = 4 + t) by omega, ↓reduceIte] at u1 u2 u3 ⊢
      have d1 : ¬ (a + 1 = a + 4 ∧ u = 5 * s + v) := by omega
      have d2 : ¬ (a + 2 = a + 4 ∧ u = 5 * s + v) := by omega
      have d3 : ¬ (a + 3 = a + 4 ∧ u = 5 * s + v) := by omega
      rw [si_i, if_neg d1, si_i, if_neg d2, si_i, if_neg d3]
      exact ⟨u1, u2, u3⟩
    · simp only [show ¬ (12 = 4 + t) by omega, show ¬ (14 + 5 * s ≤ 12 ∧ 12 < 14 + 5 * s + 5) by omega, ↓reduceIte] at v2 ⊢
      rw [si_i, if_neg (by omega)]
      exact v2
    · simp only [show ¬ (13 = 4 + t) by omega, show ¬ (14 + 5 * s ≤ 13 ∧ 13 < 14 + 5 * s + 5) by omega, ↓reduceIte] at v3 ⊢
      rw [si_i, if_neg (by omega)]
      exact v3
    · have x4 := v4 x hx
      simp only [show ¬ (14 + x = 4 + t) by omega, show ¬ (14 + x = 8 + t) by omega, ↓reduceIte] at x4 ⊢
      rw [si_i]
      by_cases e : x = 5 * s + v
      · rw [if_pos ⟨rfl, e⟩, ← e, x4, if_pos (by omega), if_pos (by omega), ofp_s, hv, if_pos (by congr 1; omega), Int32.add_assoc]
      · rw [if_neg (by omega), x4]
        by_cases g : 14 + 5 * s ≤ 14 + x ∧ 14 + x < 14 + 5 * s + 5
        · rw [if_pos g, if_pos g, ofp_s, hv, if_neg (by rw [zn_eq (by omega) (by omega)]; omega), Int32.add_zero]
        · rw [if_neg g, if_neg g]
    · have hh : rd_hears a (zn s) (zn v) M1 = some ((), M1.si (a + 4) (5 * s + v) (M1.i (a + 4) (5 * s + v) + 1)) := by
        simp (disch := omega) only [rd_hears, lt_u, jn_u, bd_s, rf_s, nl_s, nl_n, ↓reduceIte, ↓ckb24, ↓ckb256, ckb_T, ckb01, vsi_i, vsi_l, vsi_r, vsi_k, vsi_n, vsi_w, vsl_i, vsl_l, vsl_r, vsl_k, vsl_n, vsl_w, vsr_i, vsr_l, vsr_r, vsr_k, vsr_n, vsr_w, and_self, and_true, true_and, and_false, false_and, or_self, or_true, true_or, or_false, false_or, not_true_eq_false, not_false_eq_true, ne_eq, eq_self, reduceCtorEq, Nat.reduceEqDiff, Nat.reduceAdd, Nat.reduceMul, Nat.reduceSub, Nat.reduceLT, Nat.reduceLeDiff, Nat.reduceDiv, Nat.add_zero, Nat.zero_add, Nat.not_lt_zero, Nat.zero_le, Nat.le_refl, Nat.lt_irrefl, l_eq_l, m_eq_l, l_eq_m, Int32.reduceLT, Int32.reduceLE, Int32.reduceAdd, Int32.reduceSub, Int32.reduceMul, b01_0, b01_1, b10_0, z_ne_o, o_ne_z, zn_add, zn_addl, zn_ladd, zn_mull, zn_subl, ix_zn, ix_l, ck_zn, ck_l, zn_le, zn_le_l, l_le_zn, zn_lt, zn_lt_l, l_lt_zn, zn_eq, zn_eq_l, l_eq_zn, zn_eq_m, m_eq_zn, m_le_zn, zn_lt_m, imin_zn, imax_zn, zn_le_m, ckk, cka, a0, a4, a8]
      simp (disch := omega) only [x_says_L59, lt_u, jn_u, bd_s, rf_s, nl_s, nl_n, ↓reduceIte, ↓ckb24, ↓ckb256, ckb_T, ckb01, vsi_i, vsi_l, vsi_r, vsi_k, vsi_n, vsi_w, vsl_i, vsl_l, vsl_r, vsl_k, vsl_n, vsl_w, vsr_i, vsr_l, vsr_r, vsr_k, vsr_n, vsr_w, and_self, and_true, true_and, and_false, false_and, or_self, or_true, true_or, or_false, false_or, not_true_eq_false, not_false_eq_true, ne_eq, eq_self, reduceCtorEq, Nat.reduceEqDiff, Nat.reduceAdd, Nat.reduceMul, Nat.reduceSub, Nat.reduceLT, Nat.reduceLeDiff, Nat.reduceDiv, Nat.add_zero, Nat.zero_add, Nat.not_lt_zero, Nat.zero_le, Nat.le_refl, Nat.lt_irrefl, l_eq_l, m_eq_l, l_eq_m, Int32.reduceLT, Int32.reduceLE, Int32.reduceAdd, Int32.reduceSub, Int32.reduceMul, b01_0, b01_1, b10_0, z_ne_o, o_ne_z, zn_add, zn_addl, zn_ladd, zn_mull, zn_subl, ix_zn, ix_l, ck_zn, ck_l, zn_le, zn_le_l, l_le_zn, zn_lt, zn_lt_l, l_lt_zn, zn_eq, zn_eq_l, l_eq_zn, zn_eq_m, m_eq_zn, m_le_zn, zn_lt_m, imin_zn, imax_zn, zn_le_m, ckk, cka, h1.len, xs_vowelAt h1 hw hk, hv, g1, a0, a1, a5, w1, hh]
theorem xs_saysN (h : CX C M) (p q : Int32) (hn : ¬ (0 ≤ p ∧ p ≤ zn C.nt - 1) ∨ ¬ (0 ≤ q ∧ q ≤ zn C.nw - 1)) : x_says a p q M = some (-1, M) := by
  unfold x_says
  rw [xs_isTraveller h]
  by_cases g : 0 ≤ p ∧ p ≤ zn C.nt - 1
  · rcases hn with hn | hn
    · exact absurd g hn
    · simp only [bd_s, g, and_self, o_ne_z, xs_isWord h, hn, ↓reduceIte]
  · simp only [bd_s, g, ↓reduceIte]
theorem xs_says (h : CX C M) (ha : a = 21 ∨ a = 26) (hs : RdS M a) (hv : RvX a A M) {t w s : Nat} (ht : t < C.nt) (hw : w < C.nw) (hA : A t = zn s) (hs6 : s < C.ns) :
    (¬ tol C w (A t) (A 12) ≤ A (4 + t) → ∃ M', x_says a (zn t) (zn w) M = some (-2, M') ∧ Fq ca M M') ∧
    (tol C w (A t) (A 12) ≤ A (4 + t) → ∃ M', x_says a (zn t) (zn w) M = some (tol C w (A t) (A 12), M') ∧ Fq (sxc a) M M' ∧ RvX a (sayA C A t w s) M' ∧ M'.i 20 44 = dob C (A 13) (zn t) (A t) w) := by
  have b1 := h.ok.nt4
  have b2 := h.ok.nw10
  have b3 := h.ok.len6 w hw
  have b4 := h.ok.ns6
  have hs0 := hs
  obtain ⟨a0, ⟨a1, a2, a3, a4⟩, a5, a6, a7, a8⟩ := hs
  have hv0 := hv
  obtain ⟨v1, v2, v3, v4⟩ := hv
  obtain ⟨w1, w2, w3⟩ := v1 t (by omega)
  have hdt : (0 ≤ zn t ∧ zn t ≤ zn C.nt - 1) = True := dm_t ht (by omega)
  have hdw : (0 ≤ zn w ∧ zn w ≤ zn C.nw - 1) = True := dm_t hw (by omega)
  obtain ⟨c, hc⟩ : ∃ c : Int32, c = tol C w (A t) (A 12) := ⟨_, rfl⟩
  obtain ⟨M3, e3, f3, -⟩ := xs_tollOf h hw (A t) (A 12)
  rw [← hc] at e3 ⊢
  have r1 : M3.r a 1 = some (a + 2) := by rw [f3.r a 1 (by unfold ca; omega)]; exact a2
  have r0 : M3.r a 0 = some (a + 1) := by rw [f3.r a 0 (by unfold ca; omega)]; exact a1
  have r2 : M3.r a 2 = some (a + 3) := by rw [f3.r a 2 (by unfold ca; omega)]; exact a3
  have hv3 := hv0.fr f3 (fun o j q => by unfold rdc at q; unfold ca; omega)
  have p3 : M3.i (a + 2) t = A (4 + t) := (hv3.1 t (by omega)).2.1
  have q3 : M3.i (a + 3) t = A (8 + t) := (hv3.1 t (by omega)).2.2
  have k3 : M3.k a = (1, 0) := by rw [f3.k]; exact a0
  have k36 : M3.k (a + 2) = (20, 4) := by rw [f3.k]; exact a6
  have e3' : x_tollOf (zn w) (M.i (a + 1) (ix (zn t))) (M.i a 4) M = some (c, M3) := by
    rw [ix_zn (by omega), w1, v2, e3]
  refine ⟨fun g => ⟨M3, ?_, f3⟩, fun g => ?_⟩
  · simp (disch := omega) only [x_says, ↓lt_u, ↓jn_u, ↓bd_s, bd_s, ↓rf_s, rf_s, ↓nl_s, ↓nl_n, nl_s, nl_n, ↓reduceIte, ↓ckb24, ↓ckb256, ckb_T, ckb01, ↓ck_zn, ↓ck_l, ck_zn, ck_l, vsi_i, vsi_l, vsi_r, vsi_k, vsi_n, vsi_w, vsl_i, vsl_l, vsl_r, vsl_k, vsl_n, vsl_w, vsr_i, vsr_l, vsr_r, vsr_k, vsr_n, vsr_w, and_self, and_true, true_and, and_false, false_and, or_self, or_true, true_or, or_false, false_or, not_true_eq_false, not_false_eq_true, ne_eq, eq_self, reduceCtorEq, Nat.reduceEqDiff, Nat.reduceAdd, Nat.reduceMul, Nat.reduceSub, Nat.reduceLT, Nat.reduceLeDiff, Nat.reduceDiv, Nat.add_zero, Nat.zero_add, Nat.not_lt_zero, Nat.zero_le, Nat.le_refl, Nat.lt_irrefl, l_eq_l, m_eq_l, l_eq_m, Int32.reduceLT, Int32.reduceLE, Int32.reduceAdd, Int32.reduceSub, Int32.reduceMul, b01_0, b01_1, b10_0, z_ne_o, o_ne_z, zn_add, zn_addl, zn_ladd, zn_mull, zn_subl, ix_zn, ix_l, ck_zn, ck_l, zn_le, zn_le_l, l_le_zn, zn_lt, zn_lt_l, l_lt_zn, zn_eq, zn_eq_l, l_eq_zn, zn_eq_m, m_eq_zn, m_le_zn, zn_lt_m, imin_zn, imax_zn, zn_le_m, ↓bde (xt_trav h ht), ↓bde (xt_word h hw), ↓ckk_k a0, ↓cka_k a5, ↓rfe a1, ↓bde e3', ↓ckk_k k3, ↓cka_k k36, ↓rfe r1, p3, g]
  · obtain ⟨N, hN⟩ : ∃ N, N = (M3.si (a + 2) t (A (4 + t) - c)).si (a + 3) t (A (8 + t) + c) := ⟨_, rfl⟩
    have hp : rd_pays a (zn t) c M3 = some ((), N) := by
      rw [hN]
      simp (disch := omega) only [rd_pays, lt_u, jn_u, bd_s, rf_s, nl_s, nl_n, ↓reduceIte, ↓ckb24, ↓ckb256, ckb_T, ckb01, vsi_i, vsi_l, vsi_r, vsi_k, vsi_n, vsi_w, vsl_i, vsl_l, vsl_r, vsl_k, vsl_n, vsl_w, vsr_i, vsr_l, vsr_r, vsr_k, vsr_n, vsr_w, and_self, and_true, true_and, and_false, false_and, or_self, or_true, true_or, or_false, false_or, not_true_eq_false, not_false_eq_true, ne_eq, eq_self, reduceCtorEq, Nat.reduceEqDiff, Nat.reduceAdd, Nat.reduceMul, Nat.reduceSub, Nat.reduceLT, Nat.reduceLeDiff, Nat.reduceDiv, Nat.add_zero, Nat.zero_add, Nat.not_lt_zero, Nat.zero_le, Nat.le_refl, Nat.lt_irrefl, l_eq_l, m_eq_l, l_eq_m, Int32.reduceLT, Int32.reduceLE, Int32.reduceAdd, Int32.reduceSub, Int32.reduceMul, b01_0, b01_1, b10_0, z_ne_o, o_ne_z, zn_add, zn_addl, zn_ladd, zn_mull, zn_subl, ix_zn, ix_l, ck_zn, ck_l, zn_le, zn_le_l, l_le_zn, zn_lt, zn_lt_l, l_lt_zn, zn_eq, zn_eq_l, l_eq_zn, zn_eq_m, m_eq_zn, m_le_zn, zn_lt_m, imin_zn, imax_zn, zn_le_m, ckk, cka, a0, f3.k, r1, r2, a6, a7, p3, q3, show ¬ (a + 3 = a + 2) by omega]
    have fN : Fq (sxc a) M N := by
      rw [hN]
      exact ((f3.mo (d := sxc a) (fun o j q => Or.inl q)).si (by unfold sxc rdc; omega)).si (by unfold sxc rdc; omega)
    have hI0 : hrI C M a A t w s 0 N := by
      refine ⟨fN, fun u hu => ?_, ?_, ?_, fun x hx => ?_⟩
      · obtain ⟨u1, u2, u3⟩ := hv3.1 u hu
        simp only [show ¬ (u = 4 + t) by omega, show ¬ (u = 8 + t) by omega, show ¬ (14 + 5 * s ≤ u ∧ u < 14 + 5 * s + 5) by omega, show ¬ (14 + 5 * s ≤ 4 + u ∧ 4 + u < 14 + 5 * s + 5) by omega, show ¬ (14 + 5 * s ≤ 8 + u ∧ 8 + u < 14 + 5 * s + 5) by omega, show ¬ (4 + u = 8 + t) by omega, show ¬ (8 + u = 4 + t) by omega, ↓reduceIte]
        rw [hN]
        refine ⟨?_, ?_, ?_⟩
        · rw [si_i, if_neg (by omega), si_i, if_neg (by omega)]; exact u1
        · rw [si_i, if_neg (by omega), si_i, ← hc]
          by_cases e : u = t
          · rw [if_pos ⟨rfl, e⟩, if_pos (by omega)]
          · rw [if_neg (by omega), if_neg (by omega)]; exact u2
        · rw [si_i, ← hc]
          by_cases e : u = t
          · rw [if_pos ⟨rfl, e⟩, if_pos (by omega)]
          · rw [if_neg (by omega), si_i, if_neg (by omega), if_neg (by omega)]; exact u3
      · simp only [show ¬ (12 = 4 + t) by omega, show ¬ (14 + 5 * s ≤ 12 ∧ 12 < 14 + 5 * s + 5) by omega, show ¬ (12 = 8 + t) by omega, ↓reduceIte]
        rw [hN, si_i, if_neg (by omega), si_i, if_neg (by omega)]
        exact hv3.2.1
      · simp only [show ¬ (13 = 4 + t) by omega, show ¬ (14 + 5 * s ≤ 13 ∧ 13 < 14 + 5 * s + 5) by omega, show ¬ (13 = 8 + t) by omega, ↓reduceIte]
        rw [hN, si_i, if_neg (by omega), si_i, if_neg (by omega)]
        exact hv3.2.2.1
      · have x4 := hv3.2.2.2 x hx
        simp only [show ¬ (14 + x = 4 + t) by omega, show ¬ (14 + x = 8 + t) by omega, ↓reduceIte]
        rw [hN, si_i, if_neg (by omega), si_i, if_neg (by omega), x4]
        split
        · exact (Int32.add_zero _).symm
        · rfl
    have hx0 : x_says a (zn t) (zn w) M = x_says_L59 a (zn t) (zn w) c (fun M10 => ckk M10 a 1 <| ckk M10 a 1 <| lt (M10.r a 0) fun r4 => rf r4 fun a4 => cka M10 a4 20 (zn t) <| bd (x_doesBy (M10.i a 5) (zn t) (M10.i a4 (ix (zn t))) (zn w) M10) fun v8 M11 => lt (M11.si 20 44 v8) fun M12 => ckk M12 a 1 <| ckk M12 a 1 <| lt (M12.si a 5 ((M12.i a 5) ||| (M12.i 20 44))) fun M13 => some (c, M13)) FU (zn 0) N := by
      have p3' : c ≤ M3.i (a + 2) (ix (zn t)) := by rw [ix_zn (by omega), p3]; exact g
      unfold x_says
      rw [bde (xt_trav h ht), if_neg (by decide), bde (xt_word h hw), if_neg (by decide), ckk_k a0, lt_u, a1, rf_s, cka_k a5 (by omega) (by omega), ckk_k a0, bde e3', ckk_k k3, lt_u, r1, rf_s, cka_k k36 (by omega) (by omega), if_pos p3', ckk_k k3, bde hp]
      rfl
    rw [hx0]
    refine wlp (fun n k (_ : Unit) M2 => x_says_L59 a (zn t) (zn w) c _ n (zn k) M2) (C.len w) FU (FU_lt (by omega)) (fun _ s => s) () (fun k M2 => hrI C M a A t w s k M2) (fun o => ∃ M', o = some (c, M') ∧ Fq (sxc a) M M' ∧ RvX a (sayA C A t w s) M' ∧ M'.i 20 44 = dob C (A 13) (zn t) (A t) w) (fun n k M2 hk hI => xs_hearStep h ha hs0 ht hw hA hs6 hk hI) (fun n M2 hI => ?_) N hI0
    obtain ⟨f, z1, z2, z3, z4⟩ := hI
    have h1 := h.sx ha f
    have hs1 := hs0.fr f (fun j hj => by unfold sxc ca rdc; omega)
    obtain ⟨y0, ⟨y1, y2, y3, y4⟩, y5, y6, y7, y8⟩ := hs1
    have w1' := (z1 t (by omega)).1
    simp only [show ¬ (t = 4 + t) by omega, show ¬ (t = 8 + t) by omega, show ¬ (14 + 5 * s ≤ t ∧ t < 14 + 5 * s + 5) by omega, ↓reduceIte] at w1'
    simp only [show ¬ (13 = 4 + t) by omega, show ¬ (14 + 5 * s ≤ 13 ∧ 13 < 14 + 5 * s + 5) by omega, show ¬ (13 = 8 + t) by omega, ↓reduceIte] at z3
    have a20 : ¬ (20 = a) := by omega
    have a20' : ¬ (a = 20) := by omega
    refine ⟨(M2.si 20 44 (dob C (A 13) (zn t) (A t) w)).si a 5 (A 13 ||| dob C (A 13) (zn t) (A t) w), ?_, (f.si (by unfold sxc; omega)).si (by unfold sxc rdc; omega), ⟨fun u hu => ?_, ?_, ?_, fun x hx => ?_⟩, ?_⟩
    · simp (disch := omega) only [x_says_L59, lt_u, jn_u, bd_s, rf_s, nl_s, nl_n, ↓reduceIte, ↓ckb24, ↓ckb256, ckb_T, ckb01, vsi_i, vsi_l, vsi_r, vsi_k, vsi_n, vsi_w, vsl_i, vsl_l, vsl_r, vsl_k, vsl_n, vsl_w, vsr_i, vsr_l, vsr_r, vsr_k, vsr_n, vsr_w, and_self, and_true, true_and, and_false, false_and, or_self, or_true, true_or, or_false, false_or, not_true_eq_false, not_false_eq_true, ne_eq, eq_self, reduceCtorEq, Nat.reduceEqDiff, Nat.reduceAdd, Nat.reduceMul, Nat.reduceSub, Nat.reduceLT, Nat.reduceLeDiff, Nat.reduceDiv, Nat.add_zero, Nat.zero_add, Nat.not_lt_zero, Nat.zero_le, Nat.le_refl, Nat.lt_irrefl, l_eq_l, m_eq_l, l_eq_m, Int32.reduceLT, Int32.reduceLE, Int32.reduceAdd, Int32.reduceSub, Int32.reduceMul, b01_0, b01_1, b10_0, z_ne_o, o_ne_z, zn_add, zn_addl, zn_ladd, zn_mull, zn_subl, ix_zn, ix_l, ck_zn, ck_l, zn_le, zn_le_l, l_le_zn, zn_lt, zn_lt_l, l_lt_zn, zn_eq, zn_eq_l, l_eq_zn, zn_eq_m, m_eq_zn, m_le_zn, zn_lt_m, imin_zn, imax_zn, zn_le_m, ckk, cka, h1.len, y0, y1, y5, w1', z3, xs_doesBy h1 _ _ _ hw, a20', a20]
    · obtain ⟨u1, u2, u3⟩ := z1 u hu
      unfold sayA
      simp only [show ¬ (u = 4 + t) by omega, show ¬ (u = 8 + t) by omega, show ¬ (u = 13) by omega, show ¬ (4 + u = 13) by omega, show ¬ (8 + u = 13) by omega, show ¬ (14 + 5 * s ≤ u ∧ u < 14 + 5 * s + 5) by omega, show ¬ (14 + 5 * s ≤ 4 + u ∧ 4 + u < 14 + 5 * s + 5) by omega, show ¬ (14 + 5 * s ≤ 8 + u ∧ 8 + u < 14 + 5 * s + 5) by omega, show ¬ (4 + u = 8 + t) by omega, show ¬ (8 + u = 4 + t) by omega, ↓reduceIte] at u1 u2 u3 ⊢
      have d1 : ¬ (a + 1 = a ∧ u = 5) := by omega
      have d2 : ¬ (a + 2 = a ∧ u = 5) := by omega
      have d3 : ¬ (a + 3 = a ∧ u = 5) := by omega
      have d4 : ¬ (a + 1 = 20 ∧ u = 44) := by omega
      have d5 : ¬ (a + 2 = 20 ∧ u = 44) := by omega
      have d6 : ¬ (a + 3 = 20 ∧ u = 44) := by omega
      rw [si_i, if_neg d1, si_i, if_neg d4, si_i, if_neg d2, si_i, if_neg d5, si_i, if_neg d3, si_i, if_neg d6]
      exact ⟨u1, u2, u3⟩
    · unfold sayA
      simp only [show ¬ (12 = 4 + t) by omega, show ¬ (12 = 8 + t) by omega, show ¬ (14 + 5 * s ≤ 12 ∧ 12 < 14 + 5 * s + 5) by omega, Nat.reduceEqDiff, Nat.reduceAdd, Nat.reduceMul, Nat.reduceSub, Nat.reduceLT, Nat.reduceLeDiff, Nat.reduceDiv, Nat.add_zero, Nat.zero_add, Nat.not_lt_zero, Nat.zero_le, Nat.le_refl, Nat.lt_irrefl, ↓reduceIte] at z2 ⊢
      rw [si_i, if_neg (by omega), si_i, if_neg (by omega)]
      exact z2
    · unfold sayA
      simp only [show ¬ (13 = 4 + t) by omega, show ¬ (13 = 8 + t) by omega, Nat.reduceEqDiff, Nat.reduceAdd, Nat.reduceMul, Nat.reduceSub, Nat.reduceLT, Nat.reduceLeDiff, Nat.reduceDiv, Nat.add_zero, Nat.zero_add, Nat.not_lt_zero, Nat.zero_le, Nat.le_refl, Nat.lt_irrefl, ↓reduceIte]
      rw [si_i, if_pos ⟨rfl, rfl⟩]
    · have x4 := z4 x hx
      unfold sayA
      simp only [show ¬ (14 + x = 4 + t) by omega, show ¬ (14 + x = 8 + t) by omega, show ¬ (14 + x = 13) by omega, ↓reduceIte] at x4 ⊢
      rw [si_i, if_neg (by omega), si_i, if_neg (by omega), x4]
      rfl
    · rw [si_i, if_neg (by omega), si_i, if_pos ⟨rfl, rfl⟩]
end
