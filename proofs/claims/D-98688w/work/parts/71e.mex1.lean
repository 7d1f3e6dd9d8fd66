set_option maxRecDepth 100000
section
variable {C : SV} {M : PM} {ra : Nat}
theorem ms_tollExec1 (h : CY ra C M) {w : Nat} (hw : w < C.nw) {st hr : Int32} {n k v : Nat} (hk : k < C.len w) (hv5 : v < 5) (hv : vow (C.lt w k) = zn v) (s : Int32) (r0 : 0 < C.rl) {dd : Int32} (hdd : dd = if 0 < k ∧ C.lt w k = C.lt w (k - 1) then 1 else 0) {N Q Q2 : PM}
    (hN : N = (((((M.si 85 0 (zn v)).si 85 1 st).si 85 2 (hr - hr / 24 * 24)).si 85 3 (zn (C.len w))).si 85 4 (zn k)).si 85 5 (zn (nvb C w k))) (hQ : Q = ((((((N.si 85 6 dd).sr 72 14 (some ra)).si 72 15 (zn C.rl)).si 72 16 40).si 72 17 0).si 72 18 (-1)).si 72 25 1) (hh : m_held 0 Q = some (C.ru (akd C w st hr k), Q2)) :
    m_tollOf_L32 (zn w) st hr (n + 1) (zn (nvb C w k)) s (zn k) M = m_tollOf_L32 (zn w) st hr n (zn (nvb C w k + 1)) (s + cst C w st hr k) (zn (k + 1)) ((Q2.si 72 25 0).si 86 v (Q2.i 86 v + cst C w st hr k)) := by
  have b1 := h.ok.nw10
  have b2 := h.ok.len6 w hw
  have b3 := h.ok.lt26 w hw
  have b4 := nvb_le C w k
  have b5 := h.ok.rl40
  have l1 := b3 k hk
  have g1 : ¬ C.len w ≤ k := by omega
  have g3 : ¬ C.rl ≤ 0 := by omega
  obtain ⟨r1, r2, r3, r4⟩ := h.ru
  have fN : Fq ca M N := by
    rw [hN]
    exact (((((Fq.rf.si (by unfold ca; omega)).si (by unfold ca; omega)).si (by unfold ca; omega)).si (by unfold ca; omega)).si (by unfold ca; omega)).si (by unfold ca; omega)
  have hNY := h.fa fN
  have ec : imax 0 (imin 99 (C.ru (akd C w st hr k))) = cst C w st hr k := by
    unfold cst
    rw [if_neg (by omega)]
  have r3N : N.i 72 24 = zn C.rl := hNY.ru.2.2.1
  have r2N : N.r 72 22 = some ra := hNY.ru.2.1
  rcases Nat.eq_zero_or_pos k with k0 | k0
  · subst k0
    have hd : dd = 0 := by rw [hdd, if_neg (by omega)]
    subst hd
    simp (disch := omega) only [m_tollOf_L32, lt_u, jn_u, bd_s, rf_s, nl_s, nl_n, ↓reduceIte, ↓ckb24, ↓ckb256, ckb_T, ckb01, vsi_i, vsi_l, vsi_r, vsi_k, vsi_n, vsi_w, vsl_i, vsl_l, vsl_r, vsl_k, vsl_n, vsl_w, vsr_i, vsr_l, vsr_r, vsr_k, vsr_n, vsr_w, and_self, and_true, true_and, and_false, false_and, or_self, or_true, true_or, or_false, false_or, not_true_eq_false, not_false_eq_true, ne_eq, eq_self, reduceCtorEq, Nat.reduceEqDiff, Nat.reduceAdd, Nat.reduceMul, Nat.reduceSub, Nat.reduceLT, Nat.reduceLeDiff, Nat.reduceDiv, Nat.add_zero, Nat.zero_add, Nat.not_lt_zero, Nat.zero_le, Nat.le_refl, Nat.lt_irrefl, l_eq_l, m_eq_l, l_eq_m, Int32.reduceLT, Int32.reduceLE, Int32.reduceAdd, Int32.reduceSub, Int32.reduceMul, b01_0, b01_1, b10_0, z_ne_o, o_ne_z, zn_add, zn_addl, zn_ladd, zn_mull, zn_subl, ix_zn, ix_l, ck_zn, ck_l, zn_le, zn_le_l, l_le_zn, zn_lt, zn_lt_l, l_lt_zn, zn_eq, zn_eq_l, l_eq_zn, zn_eq_m, m_eq_zn, m_le_zn, zn_lt_m, imin_zn, imax_zn, zn_le_m, h.len, ms_letter h hw hk, ms_vowelOf l1, hv, r2, r3, g1, g3, ← hN, r2N, r3N, ms_begin, ← hQ, hh, ec]
  · have g2 : ¬ k ≤ 0 := by omega
    have e5 : zn k - 1 = zn (k - 1) := zn_subl (n := 1) (show 1 ≤ k by omega)
    have l2 := b3 (k - 1) (by omega)
    have m1 := ms_letter hNY hw hk
    have m2 := ms_letter hNY hw (show k - 1 < C.len w by omega)
    by_cases hq : C.lt w k = C.lt w (k - 1)
    · have hd : dd = 1 := by rw [hdd, if_pos ⟨k0, hq⟩]
      subst hd
      simp (disch := omega) only [m_tollOf_L32, lt_u, jn_u, bd_s, rf_s, nl_s, nl_n, ↓reduceIte, ↓ckb24, ↓ckb256, ckb_T, ckb01, vsi_i, vsi_l, vsi_r, vsi_k, vsi_n, vsi_w, vsl_i, vsl_l, vsl_r, vsl_k, vsl_n, vsl_w, vsr_i, vsr_l, vsr_r, vsr_k, vsr_n, vsr_w, and_self, and_true, true_and, and_false, false_and, or_self, or_true, true_or, or_false, false_or, not_true_eq_false, not_false_eq_true, ne_eq, eq_self, reduceCtorEq, Nat.reduceEqDiff, Nat.reduceAdd, Nat.reduceMul, Nat.reduceSub, Nat.reduceLT, Nat.reduceLeDiff, Nat.reduceDiv, Nat.add_zero, Nat.zero_add, Nat.not_lt_zero, Nat.zero_le, Nat.le_refl, Nat.lt_irrefl, l_eq_l, m_eq_l, l_eq_m, Int32.reduceLT, Int32.reduceLE, Int32.reduceAdd, Int32.reduceSub, Int32.reduceMul, b01_0, b01_1, b10_0, z_ne_o, o_ne_z, zn_add, zn_addl, zn_ladd, zn_mull, zn_subl, ix_zn, ix_l, ck_zn, ck_l, zn_le, zn_le_l, l_le_zn, zn_lt, zn_lt_l, l_lt_zn, zn_eq, zn_eq_l, l_eq_zn, zn_eq_m, m_eq_zn, m_le_zn, zn_lt_m, imin_zn, imax_zn, zn_le_m, h.len, ms_letter h hw hk, ms_vowelOf l1, hv, r2, r3, g1, g2, g3, ← hN, e5, m1, m2, ← hq, r2N, r3N, ms_begin, ← hQ, hh, ec]
    · have hd : dd = 0 := by rw [hdd, if_neg (fun q => hq q.2)]
      subst hd
      simp (disch := omega) only [m_tollOf_L32, lt_u, jn_u, bd_s, rf_s, nl_s, nl_n, ↓reduceIte, ↓ckb24, ↓ckb256, ckb_T, ckb01, vsi_i, vsi_l, vsi_r, vsi_k, vsi_n, vsi_w, vsl_i, vsl_l, vsl_r, vsl_k, vsl_n, vsl_w, vsr_i, vsr_l, vsr_r, vsr_k, vsr_n, vsr_w, and_self, and_true, true_and, and_false, false_and, or_self, or_true, true_or, or_false, false_or, not_true_eq_false, not_false_eq_true, ne_eq, eq_self, reduceCtorEq, Nat.reduceEqDiff, Nat.reduceAdd, Nat.reduceMul, Nat.reduceSub, Nat.reduceLT, Nat.reduceLeDiff, Nat.reduceDiv, Nat.add_zero, Nat.zero_add, Nat.not_lt_zero, Nat.zero_le, Nat.le_refl, Nat.lt_irrefl, l_eq_l, m_eq_l, l_eq_m, Int32.reduceLT, Int32.reduceLE, Int32.reduceAdd, Int32.reduceSub, Int32.reduceMul, b01_0, b01_1, b10_0, z_ne_o, o_ne_z, zn_add, zn_addl, zn_ladd, zn_mull, zn_subl, ix_zn, ix_l, ck_zn, ck_l, zn_le, zn_le_l, l_le_zn, zn_lt, zn_lt_l, l_lt_zn, zn_eq, zn_eq_l, l_eq_zn, zn_eq_m, m_eq_zn, m_le_zn, zn_lt_m, imin_zn, imax_zn, zn_le_m, h.len, ms_letter h hw hk, ms_vowelOf l1, hv, r2, r3, g1, g2, g3, ← hN, e5, m1, m2, hq, r2N, r3N, ms_begin, ← hQ, hh, ec]
end
