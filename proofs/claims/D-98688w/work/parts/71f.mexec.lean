set_option maxRecDepth 100000
section
variable {C : SV} {M : PM} {ra : Nat}
theorem ms_tollExec (h : CY ra C M) {w : Nat} (hw : w < C.nw) {st hr : Int32} {n k v : Nat} (hk : k < C.len w) (hv5 : v < 5) (hv : vow (C.lt w k) = zn v) (s : Int32) :
    ∃ M1, Fq ca M M1 ∧ (∀ u, M1.i 86 u = M.i 86 u) ∧ m_tollOf_L32 (zn w) st hr (n + 1) (zn (nvb C w k)) s (zn k) M = m_tollOf_L32 (zn w) st hr n (zn (nvb C w k + 1)) (s + cst C w st hr k) (zn (k + 1)) (M1.si 86 v (M1.i 86 v + cst C w st hr k)) := by
  rcases Nat.eq_zero_or_pos C.rl with r0 | r0
  · exact ⟨M, Fq.rf, fun _ => rfl, ms_tollExec0 h hw hk hv5 hv s r0⟩
  · obtain ⟨dd, hdd⟩ : ∃ d : Int32, d = if 0 < k ∧ C.lt w k = C.lt w (k - 1) then 1 else 0 := ⟨_, rfl⟩
    obtain ⟨N, hN⟩ : ∃ N, N = (((((M.si 85 0 (zn v)).si 85 1 st).si 85 2 (hr - hr / 24 * 24)).si 85 3 (zn (C.len w))).si 85 4 (zn k)).si 85 5 (zn (nvb C w k)) := ⟨_, rfl⟩
    obtain ⟨Q, hQ⟩ : ∃ Q, Q = ((((((N.si 85 6 dd).sr 72 14 (some ra)).si 72 15 (zn C.rl)).si 72 16 40).si 72 17 0).si 72 18 (-1)).si 72 25 1 := ⟨_, rfl⟩
    have hh := ms_askQ h r0 (st := st) (hr := hr) hv hdd hN
    rw [← hQ] at hh
    have ex := ms_tollExec1 h hw (n := n) hk hv5 hv s r0 hdd hN hQ hh
    refine ⟨(Ma Q C.rl).si 72 25 0, ?_, fun u => ?_, ?_⟩
    · rw [hQ, hN]
      exact (((((((((((((Fq.rf.si (by unfold ca; omega)).si (by unfold ca; omega)).si (by unfold ca; omega)).si (by unfold ca; omega)).si (by unfold ca; omega)).si (by unfold ca; omega)).si (by unfold ca; omega)).sr (by unfold ca; omega)).si (by unfold ca; omega)).si (by unfold ca; omega)).si (by unfold ca; omega)).si (by unfold ca; omega)).si (by unfold ca; omega)).si (by unfold ca; omega) |>.si (by unfold ca; omega)
    · rw [hQ, hN]
      simp only [vsi_i, vsi_l, vsi_r, vsi_k, vsi_n, vsi_w, vsl_i, vsl_l, vsl_r, vsl_k, vsl_n, vsl_w, vsr_i, vsr_l, vsr_r, vsr_k, vsr_n, vsr_w, and_self, and_true, true_and, and_false, false_and, or_self, or_true, true_or, or_false, false_or, not_true_eq_false, not_false_eq_true, ne_eq, eq_self, reduceCtorEq, Nat.reduceEqDiff, Nat.reduceAdd, Nat.reduceMul, Nat.reduceSub, Nat.reduceLT, Nat.reduceLeDiff, Nat.reduceDiv, Nat.add_zero, Nat.zero_add, Nat.not_lt_zero, Nat.zero_le, Nat.le_refl, Nat.lt_irrefl, ↓reduceIte]
    · rw [ex]
      have e9 : ((Ma Q C.rl).si 72 25 0).i 86 v = (Ma Q C.rl).i 86 v := by simp only [vsi_i, vsi_l, vsi_r, vsi_k, vsi_n, vsi_w, vsl_i, vsl_l, vsl_r, vsl_k, vsl_n, vsl_w, vsr_i, vsr_l, vsr_r, vsr_k, vsr_n, vsr_w, and_self, and_true, true_and, and_false, false_and, or_self, or_true, true_or, or_false, false_or, not_true_eq_false, not_false_eq_true, ne_eq, eq_self, reduceCtorEq, Nat.reduceEqDiff, Nat.reduceAdd, Nat.reduceMul, Nat.reduceSub, Nat.reduceLT, Nat.reduceLeDiff, Nat.reduceDiv, Nat.add_zero, Nat.zero_add, Nat.not_lt_zero, Nat.zero_le, Nat.le_refl, Nat.lt_irrefl, ↓reduceIte]
      rw [e9]
end
