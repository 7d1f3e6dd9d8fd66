set_option maxRecDepth 100000
section
variable {C : SV} {M : PM} {ra : Nat}
theorem oft_step {V : Int32} (h : V = -1 ∨ ∃ v, v < 5 ∧ V = zn v) (a b c d e : Int32) : (0 + (a + if V = 0 then 1 else 0) + (b + if V = 1 then 1 else 0) + (c + if V = 2 then 1 else 0) + (d + if V = 3 then 1 else 0) + (e + if V = 4 then 1 else 0) : Int32) = 0 + a + b + c + d + e + if V < 0 then 0 else 1 := by
  rcases h with h | ⟨v, hv, h⟩
  · subst h
    rw [if_neg (by decide), if_neg (by decide), if_neg (by decide), if_neg (by decide), if_neg (by decide), if_pos (by decide)]
    simp only [Int32.add_zero]
  · rcases (show v = 0 ∨ v = 1 ∨ v = 2 ∨ v = 3 ∨ v = 4 by omega) with e1 | e1 | e1 | e1 | e1
    · subst e1; subst h
      rw [if_pos (by decide), if_neg (by decide), if_neg (by decide), if_neg (by decide), if_neg (by decide), if_neg (by decide)]
      simp only [Int32.add_zero, Int32.zero_add]
      ac_rfl
    · subst e1; subst h
      rw [if_neg (by decide), if_pos (by decide), if_neg (by decide), if_neg (by decide), if_neg (by decide), if_neg (by decide)]
      simp only [Int32.add_zero, Int32.zero_add]
      ac_rfl
    · subst e1; subst h
      rw [if_neg (by decide), if_neg (by decide), if_pos (by decide), if_neg (by decide), if_neg (by decide), if_neg (by decide)]
      simp only [Int32.add_zero, Int32.zero_add]
      ac_rfl
    · subst e1; subst h
      rw [if_neg (by decide), if_neg (by decide), if_neg (by decide), if_pos (by decide), if_neg (by decide), if_neg (by decide)]
      simp only [Int32.add_zero, Int32.zero_add]
      ac_rfl
    · subst e1; subst h
      rw [if_neg (by decide), if_neg (by decide), if_neg (by decide), if_neg (by decide), if_pos (by decide), if_neg (by decide)]
      simp only [Int32.add_zero, Int32.zero_add]
      ac_rfl
/-- all vowels' numbers together -/
theorem oft_all (C : SV) (w : Nat) : (0 + oft C w 0 + oft C w 1 + oft C w 2 + oft C w 3 + oft C w 4 : Int32) = nvo C w := by
  unfold oft nvo
  generalize C.len w = n
  induction n with
  | zero => rfl
  | succ n ih =>
    simp only [itr_s]
    rw [← ih]
    exact oft_step (vow_or (C.lt w n)) _ _ _ _ _
theorem ms_vowelsIn (h : CY ra C M) {w : Nat} (hw : w < C.nw) : m_vowelsIn (zn w) M = some (nvo C w, M) := by
  have b1 := h.ok.nw10
  unfold m_vowelsIn
  rw [← oft_all]
  have := nlp (fun n k s => m_vowelsIn_L4 (zn w) n s (zn k) M) 5 FU (FU_lt (by omega)) (fun k s => s + oft C w (zn k)) 0 (some (itr (fun k s => s + oft C w (zn k)) 5 0, M)) (fun n k hk => ?_) (fun n => ?_)
  · exact this
  · have g : ¬ 5 ≤ k := by omega
    simp (disch := omega) only [m_vowelsIn_L4, lt_u, jn_u, bd_s, rf_s, nl_s, nl_n, ↓reduceIte, ↓ckb24, ↓ckb256, ckb_T, ckb01, vsi_i, vsi_l, vsi_r, vsi_k, vsi_n, vsi_w, vsl_i, vsl_l, vsl_r, vsl_k, vsl_n, vsl_w, vsr_i, vsr_l, vsr_r, vsr_k, vsr_n, vsr_w, and_self, and_true, true_and, and_false, false_and, or_self, or_true, true_or, or_false, false_or, not_true_eq_false, not_false_eq_true, ne_eq, eq_self, reduceCtorEq, Nat.reduceEqDiff, Nat.reduceAdd, Nat.reduceMul, Nat.reduceSub, Nat.reduceLT, Nat.reduceLeDiff, Nat.reduceDiv, Nat.add_zero, Nat.zero_add, Nat.not_lt_zero, Nat.zero_le, Nat.le_refl, Nat.lt_irrefl, l_eq_l, m_eq_l, l_eq_m, Int32.reduceLT, Int32.reduceLE, Int32.reduceAdd, Int32.reduceSub, Int32.reduceMul, b01_0, b01_1, b10_0, z_ne_o, o_ne_z, zn_add, zn_addl, zn_ladd, zn_mull, zn_subl, ix_zn, ix_l, ck_zn, ck_l, zn_le, zn_le_l, l_le_zn, zn_lt, zn_lt_l, l_lt_zn, zn_eq, zn_eq_l, l_eq_zn, zn_eq_m, m_eq_zn, m_le_zn, zn_lt_m, imin_zn, imax_zn, zn_le_m, ms_often h hw, g]
  · simp (disch := omega) only [m_vowelsIn_L4, lt_u, jn_u, bd_s, rf_s, nl_s, nl_n, ↓reduceIte, ↓ckb24, ↓ckb256, ckb_T, ckb01, vsi_i, vsi_l, vsi_r, vsi_k, vsi_n, vsi_w, vsl_i, vsl_l, vsl_r, vsl_k, vsl_n, vsl_w, vsr_i, vsr_l, vsr_r, vsr_k, vsr_n, vsr_w, and_self, and_true, true_and, and_false, false_and, or_self, or_true, true_or, or_false, false_or, not_true_eq_false, not_false_eq_true, ne_eq, eq_self, reduceCtorEq, Nat.reduceEqDiff, Nat.reduceAdd, Nat.reduceMul, Nat.reduceSub, Nat.reduceLT, Nat.reduceLeDiff, Nat.reduceDiv, Nat.add_zero, Nat.zero_add, Nat.not_lt_zero, Nat.zero_le, Nat.le_refl, Nat.lt_irrefl, l_eq_l, m_eq_l, l_eq_m, Int32.reduceLT, Int32.reduceLE, Int32.reduceAdd, Int32.reduceSub, Int32.reduceMul, b01_0, b01_1, b10_0, z_ne_o, o_ne_z, zn_add, zn_addl, zn_ladd, zn_mull, zn_subl, ix_zn, ix_l, ck_zn, ck_l, zn_le, zn_le_l, l_le_zn, zn_lt, zn_lt_l, l_lt_zn, zn_eq, zn_eq_l, l_eq_zn, zn_eq_m, m_eq_zn, m_le_zn, zn_lt_m, imin_zn, imax_zn, zn_le_m]
theorem ms_openOf (h : CY ra C M) (hk : M.k 73 = (20, 44)) (p : Int32) : m_openOf p M = some (opn C (M.i 73 13) p, M) := by
  have b1 := h.ok.ne8
  unfold m_openOf
  refine nlp (fun n k s => m_openOf_L4 p n s (zn k) M) C.ne FU (FU_lt (by omega)) (fun e s => s ||| (if zn (C.who e) = p then (if (((M.i 73 13) >>> (zn e &&& 31)) &&& 1) = 1 then 0 else (1 : Int32) <<< (zn e &&& 31)) else 0)) 0 _ (fun n k hk => ?_) (fun n => ?_)
  · have g : ¬ C.ne ≤ k := by omega
    simp (disch := omega) only [m_openOf_L4, lt_u, jn_u, bd_s, rf_s, nl_s, nl_n, ↓reduceIte, ↓ckb24, ↓ckb256, ckb_T, ckb01, vsi_i, vsi_l, vsi_r, vsi_k, vsi_n, vsi_w, vsl_i, vsl_l, vsl_r, vsl_k, vsl_n, vsl_w, vsr_i, vsr_l, vsr_r, vsr_k, vsr_n, vsr_w, and_self, and_true, true_and, and_false, false_and, or_self, or_true, true_or, or_false, false_or, not_true_eq_false, not_false_eq_true, ne_eq, eq_self, reduceCtorEq, Nat.reduceEqDiff, Nat.reduceAdd, Nat.reduceMul, Nat.reduceSub, Nat.reduceLT, Nat.reduceLeDiff, Nat.reduceDiv, Nat.add_zero, Nat.zero_add, Nat.not_lt_zero, Nat.zero_le, Nat.le_refl, Nat.lt_irrefl, l_eq_l, m_eq_l, l_eq_m, Int32.reduceLT, Int32.reduceLE, Int32.reduceAdd, Int32.reduceSub, Int32.reduceMul, b01_0, b01_1, b10_0, z_ne_o, o_ne_z, zn_add, zn_addl, zn_ladd, zn_mull, zn_subl, ix_zn, ix_l, ck_zn, ck_l, zn_le, zn_le_l, l_le_zn, zn_lt, zn_lt_l, l_lt_zn, zn_eq, zn_eq_l, l_eq_zn, zn_eq_m, m_eq_zn, m_le_zn, zn_lt_m, imin_zn, imax_zn, zn_le_m, h.ne, ms_field0 h hk, ms_has, g]
    repeat' split
    all_goals first | rfl | simp_all
  · simp (disch := omega) only [m_openOf_L4, lt_u, jn_u, bd_s, rf_s, nl_s, nl_n, ↓reduceIte, ↓ckb24, ↓ckb256, ckb_T, ckb01, vsi_i, vsi_l, vsi_r, vsi_k, vsi_n, vsi_w, vsl_i, vsl_l, vsl_r, vsl_k, vsl_n, vsl_w, vsr_i, vsr_l, vsr_r, vsr_k, vsr_n, vsr_w, and_self, and_true, true_and, and_false, false_and, or_self, or_true, true_or, or_false, false_or, not_true_eq_false, not_false_eq_true, ne_eq, eq_self, reduceCtorEq, Nat.reduceEqDiff, Nat.reduceAdd, Nat.reduceMul, Nat.reduceSub, Nat.reduceLT, Nat.reduceLeDiff, Nat.reduceDiv, Nat.add_zero, Nat.zero_add, Nat.not_lt_zero, Nat.zero_le, Nat.le_refl, Nat.lt_irrefl, l_eq_l, m_eq_l, l_eq_m, Int32.reduceLT, Int32.reduceLE, Int32.reduceAdd, Int32.reduceSub, Int32.reduceMul, b01_0, b01_1, b10_0, z_ne_o, o_ne_z, zn_add, zn_addl, zn_ladd, zn_mull, zn_subl, ix_zn, ix_l, ck_zn, ck_l, zn_le, zn_le_l, l_le_zn, zn_lt, zn_lt_l, l_lt_zn, zn_eq, zn_eq_l, l_eq_zn, zn_eq_m, m_eq_zn, m_le_zn, zn_lt_m, imin_zn, imax_zn, zn_le_m, h.ne]
    rfl
end
