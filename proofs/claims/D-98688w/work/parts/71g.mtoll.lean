set_option maxRecDepth 100000
section
variable {C : SV} {M : PM} {ra : Nat}
theorem tlp_s (C : SV) (w : Nat) (st hr : Int32) (k : Nat) : tlp C w st hr (k + 1) = if vow (C.lt w k) = -1 then tlp C w st hr k else tlp C w st hr k + cst C w st hr k := rfl
theorem ms_tollOf (h : CY ra C M) {w : Nat} (hw : w < C.nw) (st hr : Int32) : ∃ M', m_tollOf (zn w) st hr M = some (tol C w st hr, M') ∧ Fq ca M M' ∧ ∀ v, v < 5 → M'.i 86 v = tov C w st hr (zn v) := by
  have b1 := h.ok.nw10
  have b2 := h.ok.len6 w hw
  unfold m_tollOf
  refine wlp (fun n k (s : Unit) M2 => m_tollOf_L9 (zn w) st hr 0 0 (fun M3 => m_tollOf_L32 (zn w) st hr FU 0 0 0 M3) n (zn k) M2) 5 FU (FU_lt (by omega)) (fun _ s => s) () (fun k M2 => Fq ca M M2 ∧ ∀ v, v < k → M2.i 86 v = 0) (fun o => ∃ M', o = some (tol C w st hr, M') ∧ Fq ca M M' ∧ ∀ v, v < 5 → M'.i 86 v = tov C w st hr (zn v)) (fun n k M2 hk hI => ?_) (fun n M2 hI => ?_) M ⟨Fq.rf, fun v hv => absurd hv (by omega)⟩
  · obtain ⟨i0, i5⟩ := hI
    refine ⟨M2.si 86 k 0, ⟨i0.si (by unfold ca; omega), fun v hv => ?_⟩, ?_⟩
    · simp only [vsi_i, vsi_l, vsi_r, vsi_k, vsi_n, vsi_w, vsl_i, vsl_l, vsl_r, vsl_k, vsl_n, vsl_w, vsr_i, vsr_l, vsr_r, vsr_k, vsr_n, vsr_w, and_self, and_true, true_and, and_false, false_and, or_self, or_true, true_or, or_false, false_or, not_true_eq_false, not_false_eq_true, ne_eq, eq_self, reduceCtorEq, Nat.reduceEqDiff, Nat.reduceAdd, Nat.reduceMul, Nat.reduceSub, Nat.reduceLT, Nat.reduceLeDiff, Nat.reduceDiv, Nat.add_zero, Nat.zero_add, Nat.not_lt_zero, Nat.zero_le, Nat.le_refl, Nat.lt_irrefl]
      by_cases e : v = k
      · rw [if_pos e]
      · rw [if_neg e]; exact i5 v (by omega)
    · have g : ¬ 5 ≤ k := by omega
      simp (disch := omega) only [m_tollOf_L9, lt_u, jn_u, bd_s, rf_s, nl_s, nl_n, ↓reduceIte, ↓ckb24, ↓ckb256, ckb_T, ckb01, vsi_i, vsi_l, vsi_r, vsi_k, vsi_n, vsi_w, vsl_i, vsl_l, vsl_r, vsl_k, vsl_n, vsl_w, vsr_i, vsr_l, vsr_r, vsr_k, vsr_n, vsr_w, and_self, and_true, true_and, and_false, false_and, or_self, or_true, true_or, or_false, false_or, not_true_eq_false, not_false_eq_true, ne_eq, eq_self, reduceCtorEq, Nat.reduceEqDiff, Nat.reduceAdd, Nat.reduceMul, Nat.reduceSub, Nat.reduceLT, Nat.reduceLeDiff, Nat.reduceDiv, Nat.add_zero, Nat.zero_add, Nat.not_lt_zero, Nat.zero_le, Nat.le_refl, Nat.lt_irrefl, l_eq_l, m_eq_l, l_eq_m, Int32.reduceLT, Int32.reduceLE, Int32.reduceAdd, Int32.reduceSub, Int32.reduceMul, b01_0, b01_1, b10_0, z_ne_o, o_ne_z, zn_add, zn_addl, zn_ladd, zn_mull, zn_subl, ix_zn, ix_l, ck_zn, ck_l, zn_le, zn_le_l, l_le_zn, zn_lt, zn_lt_l, l_lt_zn, zn_eq, zn_eq_l, l_eq_zn, zn_eq_m, m_eq_zn, m_le_zn, zn_lt_m, imin_zn, imax_zn, zn_le_m, g]
  · obtain ⟨i0, i5⟩ := hI
    simp (disch := omega) only [m_tollOf_L9, lt_u, jn_u, bd_s, rf_s, nl_s, nl_n, ↓reduceIte, ↓ckb24, ↓ckb256, ckb_T, ckb01, vsi_i, vsi_l, vsi_r, vsi_k, vsi_n, vsi_w, vsl_i, vsl_l, vsl_r, vsl_k, vsl_n, vsl_w, vsr_i, vsr_l, vsr_r, vsr_k, vsr_n, vsr_w, and_self, and_true, true_and, and_false, false_and, or_self, or_true, true_or, or_false, false_or, not_true_eq_false, not_false_eq_true, ne_eq, eq_self, reduceCtorEq, Nat.reduceEqDiff, Nat.reduceAdd, Nat.reduceMul, Nat.reduceSub, Nat.reduceLT, Nat.reduceLeDiff, Nat.reduceDiv, Nat.add_zero, Nat.zero_add, Nat.not_lt_zero, Nat.zero_le, Nat.le_refl, Nat.lt_irrefl, l_eq_l, m_eq_l, l_eq_m, Int32.reduceLT, Int32.reduceLE, Int32.reduceAdd, Int32.reduceSub, Int32.reduceMul, b01_0, b01_1, b10_0, z_ne_o, o_ne_z, zn_add, zn_addl, zn_ladd, zn_mull, zn_subl, ix_zn, ix_l, ck_zn, ck_l, zn_le, zn_le_l, l_le_zn, zn_lt, zn_lt_l, l_lt_zn, zn_eq, zn_eq_l, l_eq_zn, zn_eq_m, m_eq_zn, m_le_zn, zn_lt_m, imin_zn, imax_zn, zn_le_m]
    refine wlp (fun n k (_ : Unit) M3 => m_tollOf_L32 (zn w) st hr n (zn (nvb C w k)) (tlp C w st hr k) (zn k) M3) (C.len w) FU (FU_lt (by omega)) (fun _ s => s) () (fun k M3 => tJ C M w st hr k M3) (fun o => ∃ M', o = some (tol C w st hr, M') ∧ Fq ca M M' ∧ ∀ v, v < 5 → M'.i 86 v = tov C w st hr (zn v)) (fun n k M3 hk hI => ?_) (fun n M3 hI => ?_) M2 ⟨i0, fun v hv => i5 v hv⟩
    · obtain ⟨j0, j5⟩ := hI
      have h3 := h.fa j0
      have l1 := h.ok.lt26 w hw k hk
      have b4 := nvb_le C w k
      rcases vow_or (C.lt w k) with hv | ⟨v, hv5, hv⟩
      · refine ⟨M3, ⟨j0, fun v hv5 => ?_⟩, ?_⟩
        · rw [tvp_s, if_neg (by rw [hv, m_eq_zn (by omega)]; exact id)]
          exact j5 v hv5
        · have g1 : ¬ C.len w ≤ k := by omega
          have e1 : nvb C w (k + 1) = nvb C w k := by rw [nvb_s, if_pos hv]
          have e2 : tlp C w st hr (k + 1) = tlp C w st hr k := by rw [tlp_s, if_pos hv]
          show m_tollOf_L32 (zn w) st hr (n + 1) (zn (nvb C w k)) (tlp C w st hr k) (zn k) M3 = m_tollOf_L32 (zn w) st hr n (zn (nvb C w (k + 1))) (tlp C w st hr (k + 1)) (zn (k + 1)) M3
          rw [e1, e2]
          simp (disch := omega) only [m_tollOf_L32, lt_u, jn_u, bd_s, rf_s, nl_s, nl_n, ↓reduceIte, ↓ckb24, ↓ckb256, ckb_T, ckb01, vsi_i, vsi_l, vsi_r, vsi_k, vsi_n, vsi_w, vsl_i, vsl_l, vsl_r, vsl_k, vsl_n, vsl_w, vsr_i, vsr_l, vsr_r, vsr_k, vsr_n, vsr_w, and_self, and_true, true_and, and_false, false_and, or_self, or_true, true_or, or_false, false_or, not_true_eq_false, not_false_eq_true, ne_eq, eq_self, reduceCtorEq, Nat.reduceEqDiff, Nat.reduceAdd, Nat.reduceMul, Nat.reduceSub, Nat.reduceLT, Nat.reduceLeDiff, Nat.reduceDiv, Nat.add_zero, Nat.zero_add, Nat.not_lt_zero, Nat.zero_le, Nat.le_refl, Nat.lt_irrefl, l_eq_l, m_eq_l, l_eq_m, Int32.reduceLT, Int32.reduceLE, Int32.reduceAdd, Int32.reduceSub, Int32.reduceMul, b01_0, b01_1, b10_0, z_ne_o, o_ne_z, zn_add, zn_addl, zn_ladd, zn_mull, zn_subl, ix_zn, ix_l, ck_zn, ck_l, zn_le, zn_le_l, l_le_zn, zn_lt, zn_lt_l, l_lt_zn, zn_eq, zn_eq_l, l_eq_zn, zn_eq_m, m_eq_zn, m_le_zn, zn_lt_m, imin_zn, imax_zn, zn_le_m, h3.len, ms_letter h3 hw hk, ms_vowelOf l1, hv, g1]
      · obtain ⟨M4, f4, e4, ex⟩ := ms_tollExec h3 hw (st := st) (hr := hr) (n := n) hk hv5 hv (tlp C w st hr k)
        have nm : ¬ vow (C.lt w k) = -1 := by rw [hv, zn_eq_m (by omega)]; exact id
        have e1 : nvb C w (k + 1) = nvb C w k + 1 := by rw [nvb_s, if_neg nm]
        have e2 : tlp C w st hr (k + 1) = tlp C w st hr k + cst C w st hr k := by rw [tlp_s, if_neg nm]
        refine ⟨M4.si 86 v (M4.i 86 v + cst C w st hr k), ⟨(j0.tr f4).si (by unfold ca; omega), fun u hu => ?_⟩, ?_⟩
        · simp only [vsi_i, vsi_l, vsi_r, vsi_k, vsi_n, vsi_w, vsl_i, vsl_l, vsl_r, vsl_k, vsl_n, vsl_w, vsr_i, vsr_l, vsr_r, vsr_k, vsr_n, vsr_w, and_self, and_true, true_and, and_false, false_and, or_self, or_true, true_or, or_false, false_or, not_true_eq_false, not_false_eq_true, ne_eq, eq_self, reduceCtorEq, Nat.reduceEqDiff, Nat.reduceAdd, Nat.reduceMul, Nat.reduceSub, Nat.reduceLT, Nat.reduceLeDiff, Nat.reduceDiv, Nat.add_zero, Nat.zero_add, Nat.not_lt_zero, Nat.zero_le, Nat.le_refl, Nat.lt_irrefl]
          rw [tvp_s, hv]
          by_cases hu2 : u = v
          · subst hu2
            rw [if_pos rfl, if_pos rfl, e4, j5 u hu]
          · rw [if_neg hu2, if_neg (by rw [zn_eq (by omega) (by omega)]; omega), e4]
            exact j5 u hu
        · show m_tollOf_L32 (zn w) st hr (n + 1) (zn (nvb C w k)) (tlp C w st hr k) (zn k) M3 = m_tollOf_L32 (zn w) st hr n (zn (nvb C w (k + 1))) (tlp C w st hr (k + 1)) (zn (k + 1)) _
          rw [e1, e2]
          exact ex
    · have h3 := h.fa hI.1
      refine ⟨M3, ?_, hI.1, hI.2⟩
      simp (disch := omega) only [m_tollOf_L32, lt_u, jn_u, bd_s, rf_s, nl_s, nl_n, ↓reduceIte, ↓ckb24, ↓ckb256, ckb_T, ckb01, vsi_i, vsi_l, vsi_r, vsi_k, vsi_n, vsi_w, vsl_i, vsl_l, vsl_r, vsl_k, vsl_n, vsl_w, vsr_i, vsr_l, vsr_r, vsr_k, vsr_n, vsr_w, and_self, and_true, true_and, and_false, false_and, or_self, or_true, true_or, or_false, false_or, not_true_eq_false, not_false_eq_true, ne_eq, eq_self, reduceCtorEq, Nat.reduceEqDiff, Nat.reduceAdd, Nat.reduceMul, Nat.reduceSub, Nat.reduceLT, Nat.reduceLeDiff, Nat.reduceDiv, Nat.add_zero, Nat.zero_add, Nat.not_lt_zero, Nat.zero_le, Nat.le_refl, Nat.lt_irrefl, l_eq_l, m_eq_l, l_eq_m, Int32.reduceLT, Int32.reduceLE, Int32.reduceAdd, Int32.reduceSub, Int32.reduceMul, b01_0, b01_1, b10_0, z_ne_o, o_ne_z, zn_add, zn_addl, zn_ladd, zn_mull, zn_subl, ix_zn, ix_l, ck_zn, ck_l, zn_le, zn_le_l, l_le_zn, zn_lt, zn_lt_l, l_lt_zn, zn_eq, zn_eq_l, l_eq_zn, zn_eq_m, m_eq_zn, m_le_zn, zn_lt_m, imin_zn, imax_zn, zn_le_m, h3.len]
      rfl
theorem ms_tollNow (h : CY ra C M) {w : Nat} (hw : w < C.nw) (st : Int32) : ∃ M', m_tollNow (zn w) st M = some (tol C w st (M.i 73 12), M') ∧ Fq ca M M' := by
  obtain ⟨M', e, f, -⟩ := ms_tollOf h hw st (M.i 73 12)
  refine ⟨M', ?_, f⟩
  unfold m_tollNow
  simp (disch := omega) only [lt_u, jn_u, bd_s, rf_s, nl_s, nl_n, ↓reduceIte, ↓ckb24, ↓ckb256, ckb_T, ckb01, vsi_i, vsi_l, vsi_r, vsi_k, vsi_n, vsi_w, vsl_i, vsl_l, vsl_r, vsl_k, vsl_n, vsl_w, vsr_i, vsr_l, vsr_r, vsr_k, vsr_n, vsr_w, and_self, and_true, true_and, and_false, false_and, or_self, or_true, true_or, or_false, false_or, not_true_eq_false, not_false_eq_true, ne_eq, eq_self, reduceCtorEq, Nat.reduceEqDiff, Nat.reduceAdd, Nat.reduceMul, Nat.reduceSub, Nat.reduceLT, Nat.reduceLeDiff, Nat.reduceDiv, Nat.add_zero, Nat.zero_add, Nat.not_lt_zero, Nat.zero_le, Nat.le_refl, Nat.lt_irrefl, l_eq_l, m_eq_l, l_eq_m, Int32.reduceLT, Int32.reduceLE, Int32.reduceAdd, Int32.reduceSub, Int32.reduceMul, b01_0, b01_1, b10_0, z_ne_o, o_ne_z, zn_add, zn_addl, zn_ladd, zn_mull, zn_subl, ix_zn, ix_l, ck_zn, ck_l, zn_le, zn_le_l, l_le_zn, zn_lt, zn_lt_l, l_lt_zn, zn_eq, zn_eq_l, l_eq_zn, zn_eq_m, m_eq_zn, m_le_zn, zn_lt_m, imin_zn, imax_zn, zn_le_m]
  rw [e]
  rfl
theorem hy_ca {M' : PM} (f : Fq ca M M') (j : Nat) : M'.i 73 j = M.i 73 j := f.i 73 j (by unfold ca; omega)
end
