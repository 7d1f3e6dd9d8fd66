set_option maxRecDepth 100000
/-! THE REFERENCE READS TEXTS -/
def b8 (c : Nat) : Int32 := (Int32.toInt8 (zn c)).toInt32
theorem b8_and : ∀ c, c < 256 → b8 c &&& 255 = zn c := by decide +kernel
theorem b8_low : ∀ c, c < 128 → b8 c = zn c := by decide +kernel
theorem lx_of : ∀ c, c < 256 → (m_letterOf (zn c) PM0).map (fun p => p.1) = some (if isl c = true then zn (lx (zn c)) else -1) := by decide +kernel
theorem letterOf_M (c : Int32) (M : PM) : m_letterOf c M = (m_letterOf c PM0).map (fun p => (p.1, M)) := by
  unfold m_letterOf
  repeat' split
  all_goals rfl
theorem ms_letterOf {c : Nat} (hc : c < 256) (M : PM) : m_letterOf (zn c) M = some (if isl c = true then zn (lx (zn c)) else -1, M) := by
  rw [letterOf_M]
  have := lx_of c hc
  generalize m_letterOf (zn c) PM0 = q at this
  cases q with
  | none => cases this
  | some p => simp only [Option.map_some, Option.some.injEq] at this ⊢; rw [this]
/-- what the reference reads: the cell a, the bytes b up to e -/
def RC (a : Nat) (b : Nat → Nat) (e : Nat) (M : PM) : Prop := (∃ z, M.k a = (21, z) ∧ e ≤ z ∧ z ≤ 80) ∧ a ≠ 72 ∧ M.r 72 14 = some a ∧ (∃ L T, M.i 72 15 = zn L ∧ M.i 72 16 = zn T ∧ min L T = e ∧ L ≤ 80 ∧ T ≤ 80) ∧ (∀ k, k < e → M.i a k = b8 (b k)) ∧ (∀ k, b k < 256) ∧ M.i 72 18 = -1
def hv (b : Nat → Nat) (e p : Nat) : Int32 := if p < e then zn (b p) else -1
abbrev Ma (M : PM) (p : Nat) : PM := M.si 72 17 (zn p)
abbrev Mw (M : PM) (p : Nat) : PM := (M.si 72 17 (zn p)).si 72 18 (zn p)
section
variable {a e : Nat} {b : Nat → Nat} {M : PM}
theorem ms_here (h : RC a b e M) {p : Nat} (hp : p ≤ 1000) : m_here (Ma M p) = some (hv b e p, Ma M p) := by
  obtain ⟨⟨z, k1, k2, k3⟩, a1, r1, ⟨L, T, l1, l2, l3, l4, l5⟩, t1, t2, w1⟩ := h
  unfold m_here hv
  simp (disch := omega) only [lt_u, jn_u, bd_s, rf_s, nl_s, nl_n, ↓reduceIte, ↓ckb24, ↓ckb256, ckb_T, ckb01, vsi_i, vsi_l, vsi_r, vsi_k, vsi_n, vsi_w, vsl_i, vsl_l, vsl_r, vsl_k, vsl_n, vsl_w, vsr_i, vsr_l, vsr_r, vsr_k, vsr_n, vsr_w, and_self, and_true, true_and, and_false, false_and, or_self, or_true, true_or, or_false, false_or, not_true_eq_false, not_false_eq_true, ne_eq, eq_self, reduceCtorEq, Nat.reduceEqDiff, Nat.reduceAdd, Nat.reduceMul, Nat.reduceSub, Nat.reduceLT, Nat.reduceLeDiff, Nat.reduceDiv, Nat.add_zero, Nat.zero_add, Nat.not_lt_zero, Nat.zero_le, Nat.le_refl, Nat.lt_irrefl, l_eq_l, m_eq_l, l_eq_m, Int32.reduceLT, Int32.reduceLE, Int32.reduceAdd, Int32.reduceSub, Int32.reduceMul, b01_0, b01_1, b10_0, z_ne_o, o_ne_z, zn_add, zn_addl, zn_ladd, zn_mull, zn_subl, ix_zn, ix_l, ck_zn, ck_l, zn_le, zn_le_l, l_le_zn, zn_lt, zn_lt_l, l_lt_zn, zn_eq, zn_eq_l, l_eq_zn, zn_eq_m, m_eq_zn, m_le_zn, zn_lt_m, imin_zn, imax_zn, zn_le_m, l1, l2, r1, cka, k1]
  by_cases g : p < e
  · have g1 : ¬ L ≤ p := by omega
    have g2 : ¬ T ≤ p := by omega
    have g3 := t1 p g
    have g4 := b8_and (b p) (t2 p)
    simp (disch := omega) only [lt_u, jn_u, bd_s, rf_s, nl_s, nl_n, ↓reduceIte, ↓ckb24, ↓ckb256, ckb_T, ckb01, vsi_i, vsi_l, vsi_r, vsi_k, vsi_n, vsi_w, vsl_i, vsl_l, vsl_r, vsl_k, vsl_n, vsl_w, vsr_i, vsr_l, vsr_r, vsr_k, vsr_n, vsr_w, and_self, and_true, true_and, and_false, false_and, or_self, or_true, true_or, or_false, false_or, not_true_eq_false, not_false_eq_true, ne_eq, eq_self, reduceCtorEq, Nat.reduceEqDiff, Nat.reduceAdd, Nat.reduceMul, Nat.reduceSub, Nat.reduceLT, Nat.reduceLeDiff, Nat.reduceDiv, Nat.add_zero, Nat.zero_add, Nat.not_lt_zero, Nat.zero_le, Nat.le_refl, Nat.lt_irrefl, l_eq_l, m_eq_l, l_eq_m, Int32.reduceLT, Int32.reduceLE, Int32.reduceAdd, Int32.reduceSub, Int32.reduceMul, b01_0, b01_1, b10_0, z_ne_o, o_ne_z, zn_add, zn_addl, zn_ladd, zn_mull, zn_subl, ix_zn, ix_l, ck_zn, ck_l, zn_le, zn_le_l, l_le_zn, zn_lt, zn_lt_l, l_lt_zn, zn_eq, zn_eq_l, l_eq_zn, zn_eq_m, m_eq_zn, m_le_zn, zn_lt_m, imin_zn, imax_zn, zn_le_m, g1, g2, g, a1, g3, g4]
  · by_cases g1 : L ≤ p
    · simp only [g1, g, ↓reduceIte]
    · have g2 : T ≤ p := by omega
      simp only [g1, g2, g, ↓reduceIte]
theorem ms_fine (h : RC a b e M) (p : Nat) : m_fine (Ma M p) = some (1, Ma M p) := by
  have w := h.2.2.2.2.2.2
  unfold m_fine
  simp only [vsi_i, vsi_l, vsi_r, vsi_k, vsi_n, vsi_w, vsl_i, vsl_l, vsl_r, vsl_k, vsl_n, vsl_w, vsr_i, vsr_l, vsr_r, vsr_k, vsr_n, vsr_w, and_self, and_true, true_and, and_false, false_and, or_self, or_true, true_or, or_false, false_or, not_true_eq_false, not_false_eq_true, ne_eq, eq_self, reduceCtorEq, Nat.reduceEqDiff, Nat.reduceAdd, Nat.reduceMul, Nat.reduceSub, Nat.reduceLT, Nat.reduceLeDiff, Nat.reduceDiv, Nat.add_zero, Nat.zero_add, Nat.not_lt_zero, Nat.zero_le, Nat.le_refl, Nat.lt_irrefl, w, ↓reduceIte]
theorem ms_fineW (M : PM) {p : Nat} (hp : p ≤ 1000) : m_fine (Mw M p) = some (0, Mw M p) := by
  unfold m_fine
  simp (disch := omega) only [lt_u, jn_u, bd_s, rf_s, nl_s, nl_n, ↓reduceIte, ↓ckb24, ↓ckb256, ckb_T, ckb01, vsi_i, vsi_l, vsi_r, vsi_k, vsi_n, vsi_w, vsl_i, vsl_l, vsl_r, vsl_k, vsl_n, vsl_w, vsr_i, vsr_l, vsr_r, vsr_k, vsr_n, vsr_w, and_self, and_true, true_and, and_false, false_and, or_self, or_true, true_or, or_false, false_or, not_true_eq_false, not_false_eq_true, ne_eq, eq_self, reduceCtorEq, Nat.reduceEqDiff, Nat.reduceAdd, Nat.reduceMul, Nat.reduceSub, Nat.reduceLT, Nat.reduceLeDiff, Nat.reduceDiv, Nat.add_zero, Nat.zero_add, Nat.not_lt_zero, Nat.zero_le, Nat.le_refl, Nat.lt_irrefl, l_eq_l, m_eq_l, l_eq_m, Int32.reduceLT, Int32.reduceLE, Int32.reduceAdd, Int32.reduceSub, Int32.reduceMul, b01_0, b01_1, b10_0, z_ne_o, o_ne_z, zn_add, zn_addl, zn_ladd, zn_mull, zn_subl, ix_zn, ix_l, ck_zn, ck_l, zn_le, zn_le_l, l_le_zn, zn_lt, zn_lt_l, l_lt_zn, zn_eq, zn_eq_l, l_eq_zn, zn_eq_m, m_eq_zn, m_le_zn, zn_lt_m, imin_zn, imax_zn, zn_le_m]
theorem ms_faultW (M : PM) (c : Int32) {p : Nat} (hp : p ≤ 1000) : m_fault c (Mw M p) = some ((), Mw M p) := by
  unfold m_fault
  simp only [ms_fineW M hp, bd_s, ↓reduceIte]
theorem ms_fault (h : RC a b e M) (p : Nat) : m_fault (zn p) (Ma M p) = some ((), Mw M p) := by
  unfold m_fault
  simp only [ms_fine h p, bd_s, lt_u, o_ne_z, ↓reduceIte]
theorem ms_passes (h : RC a b e M) {p : Nat} (hp : p ≤ 1000) {c : Nat} (hc : c < 256) : m_passes (zn c) (Ma M p) = if p < e ∧ b p = c then some (1, Ma M (p + 1)) else some (0, Ma M p) := by
  have t2 := h.2.2.2.2.2.1 p
  unfold m_passes
  simp only [ms_fine h p, ms_here h hp, bd_s, lt_u, o_ne_z, ↓reduceIte]
  unfold hv
  by_cases g : p < e
  · by_cases g2 : b p = c
    · simp (disch := omega) only [lt_u, jn_u, bd_s, rf_s, nl_s, nl_n, ↓reduceIte, ↓ckb24, ↓ckb256, ckb_T, ckb01, vsi_i, vsi_l, vsi_r, vsi_k, vsi_n, vsi_w, vsl_i, vsl_l, vsl_r, vsl_k, vsl_n, vsl_w, vsr_i, vsr_l, vsr_r, vsr_k, vsr_n, vsr_w, and_self, and_true, true_and, and_false, false_and, or_self, or_true, true_or, or_false, false_or, not_true_eq_false, not_false_eq_true, ne_eq, eq_self, reduceCtorEq, Nat.reduceEqDiff, Nat.reduceAdd, Nat.reduceMul, Nat.reduceSub, Nat.reduceLT, Nat.reduceLeDiff, Nat.reduceDiv, Nat.add_zero, Nat.zero_add, Nat.not_lt_zero, Nat.zero_le, Nat.le_refl, Nat.lt_irrefl, l_eq_l, m_eq_l, l_eq_m, Int32.reduceLT, Int32.reduceLE, Int32.reduceAdd, Int32.reduceSub, Int32.reduceMul, b01_0, b01_1, b10_0, z_ne_o, o_ne_z, zn_add, zn_addl, zn_ladd, zn_mull, zn_subl, ix_zn, ix_l, ck_zn, ck_l, zn_le, zn_le_l, l_le_zn, zn_lt, zn_lt_l, l_lt_zn, zn_eq, zn_eq_l, l_eq_zn, zn_eq_m, m_eq_zn, m_le_zn, zn_lt_m, imin_zn, imax_zn, zn_le_m, g, g2, si_si]
    · simp (disch := omega) only [lt_u, jn_u, bd_s, rf_s, nl_s, nl_n, ↓reduceIte, ↓ckb24, ↓ckb256, ckb_T, ckb01, vsi_i, vsi_l, vsi_r, vsi_k, vsi_n, vsi_w, vsl_i, vsl_l, vsl_r, vsl_k, vsl_n, vsl_w, vsr_i, vsr_l, vsr_r, vsr_k, vsr_n, vsr_w, and_self, and_true, true_and, and_false, false_and, or_self, or_true, true_or, or_false, false_or, not_true_eq_false, not_false_eq_true, ne_eq, eq_self, reduceCtorEq, Nat.reduceEqDiff, Nat.reduceAdd, Nat.reduceMul, Nat.reduceSub, Nat.reduceLT, Nat.reduceLeDiff, Nat.reduceDiv, Nat.add_zero, Nat.zero_add, Nat.not_lt_zero, Nat.zero_le, Nat.le_refl, Nat.lt_irrefl, l_eq_l, m_eq_l, l_eq_m, Int32.reduceLT, Int32.reduceLE, Int32.reduceAdd, Int32.reduceSub, Int32.reduceMul, b01_0, b01_1, b10_0, z_ne_o, o_ne_z, zn_add, zn_addl, zn_ladd, zn_mull, zn_subl, ix_zn, ix_l, ck_zn, ck_l, zn_le, zn_le_l, l_le_zn, zn_lt, zn_lt_l, l_lt_zn, zn_eq, zn_eq_l, l_eq_zn, zn_eq_m, m_eq_zn, m_le_zn, zn_lt_m, imin_zn, imax_zn, zn_le_m, g, g2]
  · simp (disch := omega) only [lt_u, jn_u, bd_s, rf_s, nl_s, nl_n, ↓reduceIte, ↓ckb24, ↓ckb256, ckb_T, ckb01, vsi_i, vsi_l, vsi_r, vsi_k, vsi_n, vsi_w, vsl_i, vsl_l, vsl_r, vsl_k, vsl_n, vsl_w, vsr_i, vsr_l, vsr_r, vsr_k, vsr_n, vsr_w, and_self, and_true, true_and, and_false, false_and, or_self, or_true, true_or, or_false, false_or, not_true_eq_false, not_false_eq_true, ne_eq, eq_self, reduceCtorEq, Nat.reduceEqDiff, Nat.reduceAdd, Nat.reduceMul, Nat.reduceSub, Nat.reduceLT, Nat.reduceLeDiff, Nat.reduceDiv, Nat.add_zero, Nat.zero_add, Nat.not_lt_zero, Nat.zero_le, Nat.le_refl, Nat.lt_irrefl, l_eq_l, m_eq_l, l_eq_m, Int32.reduceLT, Int32.reduceLE, Int32.reduceAdd, Int32.reduceSub, Int32.reduceMul, b01_0, b01_1, b10_0, z_ne_o, o_ne_z, zn_add, zn_addl, zn_ladd, zn_mull, zn_subl, ix_zn, ix_l, ck_zn, ck_l, zn_le, zn_le_l, l_le_zn, zn_lt, zn_lt_l, l_lt_zn, zn_eq, zn_eq_l, l_eq_zn, zn_eq_m, m_eq_zn, m_le_zn, zn_lt_m, imin_zn, imax_zn, zn_le_m, g]
theorem ms_passesW (M : PM) (c : Int32) {p : Nat} (hp : p ≤ 1000) : m_passes c (Mw M p) = some (0, Mw M p) := by
  unfold m_passes
  simp only [ms_fineW M hp, bd_s, ↓reduceIte]
theorem ms_needW (M : PM) (c : Int32) {p : Nat} (hp : p ≤ 1000) : m_need c (Mw M p) = some ((), Mw M p) := by
  unfold m_need
  simp only [ms_passesW M c hp, ms_faultW M _ hp, bd_s, ↓reduceIte]
theorem ms_need (h : RC a b e M) {p : Nat} (hp : p ≤ 1000) {c : Nat} (hc : c < 256) : m_need (zn c) (Ma M p) = if p < e ∧ b p = c then some ((), Ma M (p + 1)) else some ((), Mw M p) := by
  unfold m_need
  rw [ms_passes h hp hc]
  have e1 : (Ma M p).i 72 17 = zn p := by simp only [vsi_i, vsi_l, vsi_r, vsi_k, vsi_n, vsi_w, vsl_i, vsl_l, vsl_r, vsl_k, vsl_n, vsl_w, vsr_i, vsr_l, vsr_r, vsr_k, vsr_n, vsr_w, and_self, and_true, true_and, and_false, false_and, or_self, or_true, true_or, or_false, false_or, not_true_eq_false, not_false_eq_true, ne_eq, eq_self, reduceCtorEq, Nat.reduceEqDiff, Nat.reduceAdd, Nat.reduceMul, Nat.reduceSub, Nat.reduceLT, Nat.reduceLeDiff, Nat.reduceDiv, Nat.add_zero, Nat.zero_add, Nat.not_lt_zero, Nat.zero_le, Nat.le_refl, Nat.lt_irrefl, ↓reduceIte]
  split
  · simp only [bd_s, o_ne_z, ↓reduceIte]
  · simp only [bd_s, ↓reduceIte, e1, ms_fault h p]
/-- one of some signs that lie in a row -/
theorem ms_oneOf (h : RC a b e M) {p : Nat} (hp : p ≤ 1000) {f m : Nat} (hf : f + m ≤ 128) (h1 : 1 ≤ f) : m_oneOf (zn f) (zn m) (Ma M p) = if p < e ∧ f ≤ b p ∧ b p < f + m then some (zn (b p - f), Ma M (p + 1)) else some (0, Mw M p) := by
  have t2 := h.2.2.2.2.2.1 p
  have hh := h
  obtain ⟨⟨z, k1, k2, k3⟩, a1, r1, ⟨L, T, l1, l2, l3, l4, l5⟩, t1, -, w1⟩ := h
  have e1 : (Ma M p).i 72 17 = zn p := by simp only [vsi_i, vsi_l, vsi_r, vsi_k, vsi_n, vsi_w, vsl_i, vsl_l, vsl_r, vsl_k, vsl_n, vsl_w, vsr_i, vsr_l, vsr_r, vsr_k, vsr_n, vsr_w, and_self, and_true, true_and, and_false, false_and, or_self, or_true, true_or, or_false, false_or, not_true_eq_false, not_false_eq_true, ne_eq, eq_self, reduceCtorEq, Nat.reduceEqDiff, Nat.reduceAdd, Nat.reduceMul, Nat.reduceSub, Nat.reduceLT, Nat.reduceLeDiff, Nat.reduceDiv, Nat.add_zero, Nat.zero_add, Nat.not_lt_zero, Nat.zero_le, Nat.le_refl, Nat.lt_irrefl, ↓reduceIte]
  unfold m_oneOf
  simp only [ms_fine hh p, ms_here hh hp, bd_s, lt_u, o_ne_z, ↓reduceIte, m_in32, zn_add, e1, ms_fault hh p]
  have e2 : (zn (f + m) - 1 : Int32) = zn (f + m - 1) := zn_subl (n := 1) (show 1 ≤ f + m by omega)
  rw [e2]
  unfold hv
  by_cases g : p < e
  · have g3 := t1 p g
    by_cases g2 : f ≤ b p ∧ b p < f + m
    · have g4 : f ≤ b p ∧ b p ≤ f + m - 1 := by omega
      have g5 := b8_low (b p) (by omega)
      simp (disch := omega) only [lt_u, jn_u, bd_s, rf_s, nl_s, nl_n, ↓reduceIte, ↓ckb24, ↓ckb256, ckb_T, ckb01, vsi_i, vsi_l, vsi_r, vsi_k, vsi_n, vsi_w, vsl_i, vsl_l, vsl_r, vsl_k, vsl_n, vsl_w, vsr_i, vsr_l, vsr_r, vsr_k, vsr_n, vsr_w, and_self, and_true, true_and, and_false, false_and, or_self, or_true, true_or, or_false, false_or, not_true_eq_false, not_false_eq_true, ne_eq, eq_self, reduceCtorEq, Nat.reduceEqDiff, Nat.reduceAdd, Nat.reduceMul, Nat.reduceSub, Nat.reduceLT, Nat.reduceLeDiff, Nat.reduceDiv, Nat.add_zero, Nat.zero_add, Nat.not_lt_zero, Nat.zero_le, Nat.le_refl, Nat.lt_irrefl, l_eq_l, m_eq_l, l_eq_m, Int32.reduceLT, Int32.reduceLE, Int32.reduceAdd, Int32.reduceSub, Int32.reduceMul, b01_0, b01_1, b10_0, z_ne_o, o_ne_z, zn_add, zn_addl, zn_ladd, zn_mull, zn_subl, ix_zn, ix_l, ck_zn, ck_l, zn_le, zn_le_l, l_le_zn, zn_lt, zn_lt_l, l_lt_zn, zn_eq, zn_eq_l, l_eq_zn, zn_eq_m, m_eq_zn, m_le_zn, zn_lt_m, imin_zn, imax_zn, zn_le_m, g, g2, g4, si_si, cka, k1, r1, a1, g3, g5, Nat.add_sub_cancel, zn_sub]
    · have g4 : ¬ (f ≤ b p ∧ b p ≤ f + m - 1) := by omega
      simp (disch := omega) only [lt_u, jn_u, bd_s, rf_s, nl_s, nl_n, ↓reduceIte, ↓ckb24, ↓ckb256, ckb_T, ckb01, vsi_i, vsi_l, vsi_r, vsi_k, vsi_n, vsi_w, vsl_i, vsl_l, vsl_r, vsl_k, vsl_n, vsl_w, vsr_i, vsr_l, vsr_r, vsr_k, vsr_n, vsr_w, and_self, and_true, true_and, and_false, false_and, or_self, or_true, true_or, or_false, false_or, not_true_eq_false, not_false_eq_true, ne_eq, eq_self, reduceCtorEq, Nat.reduceEqDiff, Nat.reduceAdd, Nat.reduceMul, Nat.reduceSub, Nat.reduceLT, Nat.reduceLeDiff, Nat.reduceDiv, Nat.add_zero, Nat.zero_add, Nat.not_lt_zero, Nat.zero_le, Nat.le_refl, Nat.lt_irrefl, l_eq_l, m_eq_l, l_eq_m, Int32.reduceLT, Int32.reduceLE, Int32.reduceAdd, Int32.reduceSub, Int32.reduceMul, b01_0, b01_1, b10_0, z_ne_o, o_ne_z, zn_add, zn_addl, zn_ladd, zn_mull, zn_subl, ix_zn, ix_l, ck_zn, ck_l, zn_le, zn_le_l, l_le_zn, zn_lt, zn_lt_l, l_lt_zn, zn_eq, zn_eq_l, l_eq_zn, zn_eq_m, m_eq_zn, m_le_zn, zn_lt_m, imin_zn, imax_zn, zn_le_m, g, g2, g4]
  · simp (disch := omega) only [lt_u, jn_u, bd_s, rf_s, nl_s, nl_n, ↓reduceIte, ↓ckb24, ↓ckb256, ckb_T, ckb01, vsi_i, vsi_l, vsi_r, vsi_k, vsi_n, vsi_w, vsl_i, vsl_l, vsl_r, vsl_k, vsl_n, vsl_w, vsr_i, vsr_l, vsr_r, vsr_k, vsr_n, vsr_w, and_self, and_true, true_and, and_false, false_and, or_self, or_true, true_or, or_false, false_or, not_true_eq_false, not_false_eq_true, ne_eq, eq_self, reduceCtorEq, Nat.reduceEqDiff, Nat.reduceAdd, Nat.reduceMul, Nat.reduceSub, Nat.reduceLT, Nat.reduceLeDiff, Nat.reduceDiv, Nat.add_zero, Nat.zero_add, Nat.not_lt_zero, Nat.zero_le, Nat.le_refl, Nat.lt_irrefl, l_eq_l, m_eq_l, l_eq_m, Int32.reduceLT, Int32.reduceLE, Int32.reduceAdd, Int32.reduceSub, Int32.reduceMul, b01_0, b01_1, b10_0, z_ne_o, o_ne_z, zn_add, zn_addl, zn_ladd, zn_mull, zn_subl, ix_zn, ix_l, ck_zn, ck_l, zn_le, zn_le_l, l_le_zn, zn_lt, zn_lt_l, l_lt_zn, zn_eq, zn_eq_l, l_eq_zn, zn_eq_m, m_eq_zn, m_le_zn, zn_lt_m, imin_zn, imax_zn, zn_le_m, g]
theorem ms_oneOfW (M : PM) (c d : Int32) {p : Nat} (hp : p ≤ 1000) : m_oneOf c d (Mw M p) = some (0, Mw M p) := by
  unfold m_oneOf
  simp only [ms_fineW M hp, bd_s, ↓reduceIte]
theorem ms_numLoop (h : RC a b e M) {d : Nat} (hd : d ≤ 10) : ∀ r n k p v, k + r = d → r < n → p + r ≤ 1000 → m_number_L11 (zn d) n (zn v) (zn k) (Ma M p) = some (zn (num b e r p v).2, Ma M (num b e r p v).1) := by
  intro r
  induction r with
  | zero =>
    intro n k p v hk hn hp
    obtain ⟨m, rfl⟩ : ∃ m, n = m + 1 := ⟨n - 1, by omega⟩
    have g : d ≤ k := by omega
    simp (disch := omega) only [m_number_L11, lt_u, jn_u, bd_s, rf_s, nl_s, nl_n, ↓reduceIte, ↓ckb24, ↓ckb256, ckb_T, ckb01, vsi_i, vsi_l, vsi_r, vsi_k, vsi_n, vsi_w, vsl_i, vsl_l, vsl_r, vsl_k, vsl_n, vsl_w, vsr_i, vsr_l, vsr_r, vsr_k, vsr_n, vsr_w, and_self, and_true, true_and, and_false, false_and, or_self, or_true, true_or, or_false, false_or, not_true_eq_false, not_false_eq_true, ne_eq, eq_self, reduceCtorEq, Nat.reduceEqDiff, Nat.reduceAdd, Nat.reduceMul, Nat.reduceSub, Nat.reduceLT, Nat.reduceLeDiff, Nat.reduceDiv, Nat.add_zero, Nat.zero_add, Nat.not_lt_zero, Nat.zero_le, Nat.le_refl, Nat.lt_irrefl, l_eq_l, m_eq_l, l_eq_m, Int32.reduceLT, Int32.reduceLE, Int32.reduceAdd, Int32.reduceSub, Int32.reduceMul, b01_0, b01_1, b10_0, z_ne_o, o_ne_z, zn_add, zn_addl, zn_ladd, zn_mull, zn_subl, ix_zn, ix_l, ck_zn, ck_l, zn_le, zn_le_l, l_le_zn, zn_lt, zn_lt_l, l_lt_zn, zn_eq, zn_eq_l, l_eq_zn, zn_eq_m, m_eq_zn, m_le_zn, zn_lt_m, imin_zn, imax_zn, zn_le_m, g, num]
  | succ r ih =>
    intro n k p v hk hn hp
    obtain ⟨m, rfl⟩ : ∃ m, n = m + 1 := ⟨n - 1, by omega⟩
    have g : ¬ d ≤ k := by omega
    have t2 := h.2.2.2.2.2.1 p
    have ho := ms_oneOf h (p := p) (f := 48) (m := 10) (by omega) (by omega) (by omega)
    have ho' : m_oneOf 48 10 (Ma M p) = _ := ho
    unfold num
    by_cases q : p < e ∧ isd (b p) = true
    · have q2 : 48 ≤ b p ∧ b p ≤ 57 := by
        have := q.2
        simpa only [isd, Bool.and_eq_true, decide_eq_true_eq] using this
      have q3 : p < e ∧ 48 ≤ b p ∧ b p < 48 + 10 := by omega
      rw [if_pos q3] at ho'
      rw [if_pos q]
      have q4 : hv b e p = zn (b p) := if_pos q.1
      simp (disch := omega) only [m_number_L11, lt_u, jn_u, bd_s, rf_s, nl_s, nl_n, ↓reduceIte, ↓ckb24, ↓ckb256, ckb_T, ckb01, vsi_i, vsi_l, vsi_r, vsi_k, vsi_n, vsi_w, vsl_i, vsl_l, vsl_r, vsl_k, vsl_n, vsl_w, vsr_i, vsr_l, vsr_r, vsr_k, vsr_n, vsr_w, and_self, and_true, true_and, and_false, false_and, or_self, or_true, true_or, or_false, false_or, not_true_eq_false, not_false_eq_true, ne_eq, eq_self, reduceCtorEq, Nat.reduceEqDiff, Nat.reduceAdd, Nat.reduceMul, Nat.reduceSub, Nat.reduceLT, Nat.reduceLeDiff, Nat.reduceDiv, Nat.add_zero, Nat.zero_add, Nat.not_lt_zero, Nat.zero_le, Nat.le_refl, Nat.lt_irrefl, l_eq_l, m_eq_l, l_eq_m, Int32.reduceLT, Int32.reduceLE, Int32.reduceAdd, Int32.reduceSub, Int32.reduceMul, b01_0, b01_1, b10_0, z_ne_o, o_ne_z, zn_add, zn_addl, zn_ladd, zn_mull, zn_subl, ix_zn, ix_l, ck_zn, ck_l, zn_le, zn_le_l, l_le_zn, zn_lt, zn_lt_l, l_lt_zn, zn_eq, zn_eq_l, l_eq_zn, zn_eq_m, m_eq_zn, m_le_zn, zn_lt_m, imin_zn, imax_zn, zn_le_m, g, ms_fine h p, ms_here h (show p ≤ 1000 by omega), m_in32, q4, q2, ho']
      exact ih m (k + 1) (p + 1) _ (by omega) (by omega) (by omega)
    · rw [if_neg q]
      have q5 : ¬ (48 ≤ hv b e p ∧ hv b e p ≤ 57) := by
        unfold hv
        by_cases g2 : p < e
        · rw [if_pos g2, l_le_zn (by omega) (by omega), zn_le_l (by omega) (by omega)]
          intro q6
          apply q
          refine ⟨g2, ?_⟩
          simp only [isd, Bool.and_eq_true, decide_eq_true_eq]
          exact q6
        · rw [if_neg g2]
          decide
      simp (disch := omega) only [m_number_L11, lt_u, jn_u, bd_s, rf_s, nl_s, nl_n, ↓reduceIte, ↓ckb24, ↓ckb256, ckb_T, ckb01, vsi_i, vsi_l, vsi_r, vsi_k, vsi_n, vsi_w, vsl_i, vsl_l, vsl_r, vsl_k, vsl_n, vsl_w, vsr_i, vsr_l, vsr_r, vsr_k, vsr_n, vsr_w, and_self, and_true, true_and, and_false, false_and, or_self, or_true, true_or, or_false, false_or, not_true_eq_false, not_false_eq_true, ne_eq, eq_self, reduceCtorEq, Nat.reduceEqDiff, Nat.reduceAdd, Nat.reduceMul, Nat.reduceSub, Nat.reduceLT, Nat.reduceLeDiff, Nat.reduceDiv, Nat.add_zero, Nat.zero_add, Nat.not_lt_zero, Nat.zero_le, Nat.le_refl, Nat.lt_irrefl, l_eq_l, m_eq_l, l_eq_m, Int32.reduceLT, Int32.reduceLE, Int32.reduceAdd, Int32.reduceSub, Int32.reduceMul, b01_0, b01_1, b10_0, z_ne_o, o_ne_z, zn_add, zn_addl, zn_ladd, zn_mull, zn_subl, ix_zn, ix_l, ck_zn, ck_l, zn_le, zn_le_l, l_le_zn, zn_lt, zn_lt_l, l_lt_zn, zn_eq, zn_eq_l, l_eq_zn, zn_eq_m, m_eq_zn, m_le_zn, zn_lt_m, imin_zn, imax_zn, zn_le_m, g, ms_fine h p, ms_here h (show p ≤ 1000 by omega), m_in32, q5]
theorem ms_number (h : RC a b e M) {d p : Nat} (hp : p + d < 1000) (hd : d + 1 ≤ 10) (q : p < e ∧ isd (b p) = true) : m_number (zn (d + 1)) (Ma M p) = some (zn (num b e (d + 1) p 0).2, Ma M (num b e (d + 1) p 0).1) := by
  have q2 : 48 ≤ b p ∧ b p ≤ 57 := by
    have := q.2
    simpa only [isd, Bool.and_eq_true, decide_eq_true_eq] using this
  have ho := ms_oneOf h (p := p) (f := 48) (m := 10) (by omega) (by omega) (by omega)
  have ho' : m_oneOf 48 10 (Ma M p) = _ := ho
  rw [if_pos (by omega)] at ho'
  unfold m_number
  rw [ho', bd_s]
  rw [num, if_pos q]
  have := ms_numLoop h (d := d + 1) hd d FU 1 (p + 1) (b p - 48) (by omega) (FU_lt (by omega)) (by omega)
  rw [show 10 * 0 + (b p - 48) = b p - 48 by omega]
  exact this
/-- no digit: a fault here -/
theorem ms_numberF (h : RC a b e M) {d p : Nat} (hp : p ≤ 1000) (hd : d + 1 ≤ 10) (q : ¬ (p < e ∧ isd (b p) = true)) : m_number (zn (d + 1)) (Ma M p) = some (0, Mw M p) := by
  have ho := ms_oneOf h (p := p) (f := 48) (m := 10) (by omega) (by omega) (by omega)
  have ho' : m_oneOf 48 10 (Ma M p) = _ := ho
  have q2 : ¬ (p < e ∧ 48 ≤ b p ∧ b p < 48 + 10) := by
    intro g
    apply q
    refine ⟨g.1, ?_⟩
    simp only [isd, Bool.and_eq_true, decide_eq_true_eq]
    omega
  rw [if_neg q2] at ho'
  unfold m_number
  rw [ho', bd_s]
  unfold FU
  rw [m_number_L11]
  by_cases g : zn (d + 1) ≤ 1
  · rw [if_pos g]
  · rw [if_neg g]
    simp only [ms_fineW M hp, bd_s, ↓reduceIte]
end
