set_option maxRecDepth 100000
section
variable {C : SV} {M : PM} {ra : Nat}
/-! tolls -/
theorem clm_v : ∀ v, v < 5 → imax 0 (imin 99 (zn (v + 1))) = zn (v + 1) := by decide +kernel
/-- a vowel's askings are laid out and the rule is gone through -/
theorem ms_ruled (h : CY ra C M) (hr : 0 < C.rl) {q : Nat → Int32} (hq : ∀ i, i < 7 → M.i 85 i = q i) (hq2 : ∀ i, 7 ≤ i → q i = 0) (h25 : M.i 72 25 = 1) (h14 : M.r 72 14 = some ra) (h15 : M.i 72 15 = zn C.rl) (h16 : M.i 72 16 = 40) (h17 : M.i 72 17 = 0) (h18 : M.i 72 18 = -1) : m_held 0 M = some (C.ru q, Ma M C.rl) := by
  have b1 := h.ok.rl40
  obtain ⟨r1, r2, r3, r4⟩ := h.ru
  have hk : M.k ra = (21, 40) := by
    rcases r1 with r | r
    · rw [r]; exact kd83 h.sh
    · rw [r]; exact kd84 h.sh
  have hRC : RC ra C.rb C.rl M := ⟨⟨40, hk, b1, by omega⟩, by omega, h14, ⟨C.rl, 40, h15, h16, by omega, by omega, by omega⟩, r4, h.ok.rb8, h18⟩
  have hM : M = Ma M 0 := by
    have : M.i 72 17 = zn 0 := h17
    show M = M.si 72 17 (zn 0)
    rw [← this, si_id]
  have hg := (ms_rule hRC b1 (kd85 h.sh) 120 100 0 0 (by omega) (by omega)).1 (by omega) (by omega)
  have e1 : pz C.rb C.rl 100 0 0 0 = (C.rl, some C.ru) := by
    obtain ⟨D, e⟩ := h.ok.rok hr
    have e2 : C.ru = D := by
      unfold SV.ru
      rw [e]
    rw [e2]
    exact e
  rw [e1] at hg
  have hg2 := mR_s hg
  have e3 : qv M = q := by
    funext i
    unfold qv
    by_cases g : i < 7
    · rw [if_pos g, if_neg (by rw [h25]; decide)]
      exact hq i g
    · rw [if_neg g]
      exact (hq2 i (by omega)).symm
  rw [e3, ← hM] at hg2
  exact hg2
theorem akd_7 (C : SV) (w : Nat) (st hr : Int32) (k i : Nat) (h : 7 ≤ i) : akd C w st hr k i = 0 := by
  match i, h with
  | i + 7, _ => rfl
def tJ (C : SV) (M0 : PM) (w : Nat) (st hr : Int32) (k : Nat) (M : PM) : Prop := Fq ca M0 M ∧ ∀ v, v < 5 → M.i 86 v = tvp C w st hr (zn v) k
/-- the askings laid out: what the rule says, and what the memory is then -/
theorem ms_askQ (h : CY ra C M) (r0 : 0 < C.rl) {w k v : Nat} {st hr dd : Int32} (hv : vow (C.lt w k) = zn v) (hdd : dd = if 0 < k ∧ C.lt w k = C.lt w (k - 1) then 1 else 0) {N : PM}
    (hN : N = (((((M.si 85 0 (zn v)).si 85 1 st).si 85 2 (hr - hr / 24 * 24)).si 85 3 (zn (C.len w))).si 85 4 (zn k)).si 85 5 (zn (nvb C w k))) :
    m_held 0 (((((((N.si 85 6 dd).sr 72 14 (some ra)).si 72 15 (zn C.rl)).si 72 16 40).si 72 17 0).si 72 18 (-1)).si 72 25 1) = some (C.ru (akd C w st hr k), Ma (((((((N.si 85 6 dd).sr 72 14 (some ra)).si 72 15 (zn C.rl)).si 72 16 40).si 72 17 0).si 72 18 (-1)).si 72 25 1) C.rl) := by
  obtain ⟨Q, hQ⟩ : ∃ Q, Q = ((((((N.si 85 6 dd).sr 72 14 (some ra)).si 72 15 (zn C.rl)).si 72 16 40).si 72 17 0).si 72 18 (-1)).si 72 25 1 := ⟨_, rfl⟩
  have fQ : Fq ca M Q := by
    rw [hQ, hN]
    exact ((((((((((((Fq.rf.si (by unfold ca; omega)).si (by unfold ca; omega)).si (by unfold ca; omega)).si (by unfold ca; omega)).si (by unfold ca; omega)).si (by unfold ca; omega)).si (by unfold ca; omega)).sr (by unfold ca; omega)).si (by unfold ca; omega)).si (by unfold ca; omega)).si (by unfold ca; omega)).si (by unfold ca; omega)).si (by unfold ca; omega)
  rw [← hQ]
  have q85 : ∀ i, i < 7 → Q.i 85 i = akd C w st hr k i := by
    intro i hi
    rcases (show i = 0 ∨ i = 1 ∨ i = 2 ∨ i = 3 ∨ i = 4 ∨ i = 5 ∨ i = 6 by omega) with e | e | e | e | e | e | e
    all_goals (subst e; rw [hQ, hN]; simp only [vsi_i, vsi_l, vsi_r, vsi_k, vsi_n, vsi_w, vsl_i, vsl_l, vsl_r, vsl_k, vsl_n, vsl_w, vsr_i, vsr_l, vsr_r, vsr_k, vsr_n, vsr_w, and_self, and_true, true_and, and_false, false_and, or_self, or_true, true_or, or_false, false_or, not_true_eq_false, not_false_eq_true, ne_eq, eq_self, reduceCtorEq, Nat.reduceEqDiff, Nat.reduceAdd, Nat.reduceMul, Nat.reduceSub, Nat.reduceLT, Nat.reduceLeDiff, Nat.reduceDiv, Nat.add_zero, Nat.zero_add, Nat.not_lt_zero, Nat.zero_le, Nat.le_refl, Nat.lt_irrefl, ↓reduceIte])
    · exact hv.symm
    · rfl
    · rfl
    · rfl
    · rfl
    · rfl
    · exact hdd
  refine ms_ruled (h.fa fQ) r0 q85 (akd_7 C w st hr k) ?_ ?_ ?_ ?_ ?_ ?_
  all_goals (rw [hQ]; simp only [vsi_i, vsi_l, vsi_r, vsi_k, vsi_n, vsi_w, vsl_i, vsl_l, vsl_r, vsl_k, vsl_n, vsl_w, vsr_i, vsr_l, vsr_r, vsr_k, vsr_n, vsr_w, and_self, and_true, true_and, and_false, false_and, or_self, or_true, true_or, or_false, false_or, not_true_eq_false, not_false_eq_true, ne_eq, eq_self, reduceCtorEq, Nat.reduceEqDiff, Nat.reduceAdd, Nat.reduceMul, Nat.reduceSub, Nat.reduceLT, Nat.reduceLeDiff, Nat.reduceDiv, Nat.add_zero, Nat.zero_add, Nat.not_lt_zero, Nat.zero_le, Nat.le_refl, Nat.lt_irrefl, ↓reduceIte])
theorem ms_begin (a1 : Nat) (x y : Int32) (M : PM) : m_begin a1 x y M = some ((), ((((M.sr 72 14 (some a1)).si 72 15 x).si 72 16 y).si 72 17 0).si 72 18 (-1)) := rfl
end
