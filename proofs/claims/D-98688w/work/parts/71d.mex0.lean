set_option maxRecDepth 100000
section
variable {C : SV} {M : PM} {ra : Nat}
theorem ms_tollExec0 (h : CY ra C M) {w : Nat} (hw : w < C.nw) {st hr : Int32} {n k v : Nat} (hk : k < C.len w) (hv5 : v < 5) (hv : vow (C.lt w k) = zn v) (s : Int32) (r0 : C.rl = 0) :
    m_tollOf_L32 (zn w) st hr (n + 1) (zn (nvb C w k)) s (zn k) M = m_tollOf_L32 (zn w) st hr n (zn (nvb C w k + 1)) (s + cst C w st hr k) (zn (k + 1)) (M.si 86 v (M.i 86 v + cst C w st hr k)) := by
  have b1 := h.ok.nw10
  have b2 := h.ok.len6 w hw
  have b4 := nvb_le C w k
  have l1 := h.ok.lt26 w hw k hk
  have g1 : ¬ C.len w ≤ k := by omega
  obtain ⟨r1, r2, r3, r4⟩ := h.ru
  have ec : cst C w st hr k = zn (v + 1) := by
    unfold cst
    rw [if_pos r0, hv]
    exact zn_addl v 1
  have cl := clm_v v hv5
  rw [ec]
  rw [r0] at r3
  simp (disch := omega) only [m_tollOf_L32, lt_u, jn_u, bd_s, rf_s, nl_s, nl_n, ↓reduceIte, ↓ckb24, ↓ckb256, ckb_T, ckb01, vsi_i, vsi_l, vsi_r, vsi_k, vsi_n, vsi_w, vsl_i, vsl_l, vsl_r, vsl_k, vsl_n, vsl_w, vsr_i, vsr_l, vsr_r, vsr_k, vsr_n, vsr_w, and_self, and_true, true_and, and_false, false_and, or_self, or_true, true_or, or_false, false_or, not_true_eq_false, not_false_eq_true, ne_eq, eq_self, reduceCtorEq, Nat.reduceEqDiff, Nat.reduceAdd, Nat.reduceMul, Nat.reduceSub, Nat.reduceLT, Nat.reduceLeDiff, Nat.reduceDiv, Nat.add_zero, Nat.zero_add, Nat.not_lt_zero, Nat.zero_le, Nat.le_refl, Nat.lt_irrefl, l_eq_l, m_eq_l, l_eq_m, Int32.reduceLT, Int32.reduceLE, Int32.reduceAdd, Int32.reduceSub, Int32.reduceMul, b01_0, b01_1, b10_0, z_ne_o, o_ne_z, zn_add, zn_addl, zn_ladd, zn_mull, zn_subl, ix_zn, ix_l, ck_zn, ck_l, zn_le, zn_le_l, l_le_zn, zn_lt, zn_lt_l, l_lt_zn, zn_eq, zn_eq_l, l_eq_zn, zn_eq_m, m_eq_zn, m_le_zn, zn_lt_m, imin_zn, imax_zn, zn_le_m, h.len, ms_letter h hw hk, ms_vowelOf l1, hv, r3, g1, cl]
end
