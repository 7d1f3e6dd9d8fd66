set_option maxRecDepth 100000
/-! THE FIVE THAT MAY THROW -/
def Call5 (fx fm : PM → Option (Int32 × PM)) : Prop := ∀ kb M, RR kb M → ∃ k b M1 M2, fx M = some (k, M1) ∧ fm M1 = some (b, M2) ∧ M2.i 72 13 = k ∧ (k = 0 ∨ k = 1) ∧ (k = 0 → M2.l 104 0 = b.toInt64) ∧ RR kb M2 ∧ M2.n ≤ M.n + 500 ∧ M2.w ≤ M.w + 5000
section
variable {C : SV} {A : Nat → Int32} {M M1 : PM} {l : List Int64}
theorem ck01 {α : Type} {x : Option α} : ck 0 1 x = x := ck_zn (a := 0) (by omega) (by omega)
theorem ix0 : ix 0 = 0 := ix_zn (k := 0) (by omega)
theorem and1 (x : Int32) : x &&& 1 = 0 ∨ x &&& 1 = 1 := by
  have h : (x &&& 1).toBitVec = x.toBitVec &&& 1#32 := rfl
  rw [BitVec.and_one_eq_setWidth_ofBool_getLsbD] at h
  cases hb : x.toBitVec.getLsbD 0
  · left
    rw [hb] at h
    exact Int32.toBitVec_inj.mp (h.trans (by decide))
  · right
    rw [hb] at h
    exact Int32.toBitVec_inj.mp (h.trans (by decide))
theorem Call5.of {gx : PM → Option (Option Int32 × PM)} {fm : PM → Option (Int32 × PM)} (h : ∀ C A l, OKC C → OKA C A → l.length ≤ 15 → (∃ v, (∀ M, CX C M → RvX 21 A M → LX l M → gx M = some (some v, M)) ∧ ∀ M, CY 83 C M → RvY 73 A M → LY l M → fm M = some (v, M.si 72 13 0)) ∨
    ((∀ M, CX C M → RvX 21 A M → LX l M → gx M = some (none, M.nw 99 0 6)) ∧ ∀ M, CY 83 C M → RvY 73 A M → LY l M → fm M = some (0, (M.si 72 13 0).si 72 13 1))) :
    Call5 (fun M => bd (gx M) <| oel (fun M1 => some (1, M1)) fun v1 M1 => ck 0 1 <| lt (M1.sl 104 (ix 0) (Int32.toInt64 v1)) fun M2 => some (0, M2)) fm := by
  rintro kb M ⟨C, A, nT, bT, nU, U, ch, K, l, hR⟩
  rcases h C A l hR.x.ok hR.ok hR.l15 with ⟨v, h1, h2⟩ | ⟨h1, h2⟩
  · have f1 : Fq xq M (M.sl 104 0 v.toInt64) := Fq.rf.sl (by unfold xq ts; omega)
    have l1 : LX l (M.sl 104 0 v.toInt64) := hR.lx.fr (c := fun o j => o = 104) (Fq.rf.sl rfl) (by omega) (fun j => by omega)
    have y1 := hR.y.fx f1
    have b1 : RvY 73 A (M.sl 104 0 v.toInt64) := hR.b.fr f1 (fun j => by unfold xq ts; omega)
    have ly1 : LY l (M.sl 104 0 v.toInt64) := hR.ly.fr f1 (by unfold xq ts; omega) (fun j => by unfold xq ts; omega)
    refine ⟨0, v, M.sl 104 0 v.toInt64, (M.sl 104 0 v.toInt64).si 72 13 0, ?_, h2 _ y1 b1 ly1, by rw [si_i, if_pos ⟨rfl, rfl⟩], Or.inl rfl, fun _ => ?_, ⟨C, A, nT, bT, nU, U, ch, K, l, hR.q f1 f13 l1 (ly13 ly1) hR.l15⟩, ?_, ?_⟩
    · show bd (gx M) _ = _
      rw [h1 M hR.x hR.a hR.lx, bd_s]
      show ck 0 1 _ = _
      rw [ck01, lt_u, ix0]
    · rw [si_l, sl_l, if_pos ⟨rfl, rfl⟩]
    · show M.n ≤ M.n + 500; omega
    · show M.w ≤ M.w + 5000; omega
  · have hR1 := hR.gw (Ge.nw M 99 0 6)
    refine ⟨1, 0, M.nw 99 0 6, ((M.nw 99 0 6).si 72 13 0).si 72 13 1, ?_, h2 _ hR1.y hR1.b hR1.ly, by rw [si_i, if_pos ⟨rfl, rfl⟩], Or.inr rfl, fun q => absurd q (by decide), ⟨C, A, nT, bT, nU, U, ch, K, l, hR1.q Fq.rf (f13.tr (Fq.rf.si (by unfold yq; omega))) hR1.lx ?_ hR.l15⟩, ?_, ?_⟩
    · show bd (gx M) _ = _
      rw [h1 M hR.x hR.a hR.lx, bd_s]
      rfl
    · exact (ly13 hR1.ly).fr (c := fun o j => o = 72 ∧ j = 13) (Fq.rf.si ⟨rfl, rfl⟩) (by omega) (fun j => by omega)
    · show M.n + 1 ≤ M.n + 500; omega
    · show M.w + 6 ≤ M.w + 5000; omega
/-! word -/
def wdv (C : SV) (w q : Nat) : Int32 := if q = 0 then zn (C.len w) else if q = 1 then nvo C w else if q = 2 then zn (C.mn w) else if q = 3 then C.sc w else oft C w (zn (q - 4))
theorem xs_word (h : CX C M) {w q : Nat} (hw : w < C.nw) (hq : q ≤ 8) : x_word (zn w) (zn q) M = some (some (wdv C w q), M) := by
  have b1 := h.ok.nw10
  unfold x_word
  rw [bde (xt_word h hw), jn_u, if_neg (by decide), bde (xt_8 hq M), if_neg (by decide)]
  unfold wdv
  rcases (show q = 0 ∨ q = 1 ∨ q = 2 ∨ q = 3 ∨ 4 ≤ q by omega) with e | e | e | e | e
  · subst e
    simp (disch := omega) only [↓lt_u, ↓jn_u, ↓bd_s, bd_s, ↓rf_s, rf_s, ↓nl_s, ↓nl_n, nl_s, nl_n, ↓reduceIte, ↓ckb24, ↓ckb256, ckb_T, ckb01, ↓ck_zn, ↓ck_l, ck_zn, ck_l, vsi_i, vsi_l, vsi_r, vsi_k, vsi_n, vsi_w, vsl_i, vsl_l, vsl_r, vsl_k, vsl_n, vsl_w, vsr_i, vsr_l, vsr_r, vsr_k, vsr_n, vsr_w, and_self, and_true, true_and, and_false, false_and, or_self, or_true, true_or, or_false, false_or, not_true_eq_false, not_false_eq_true, ne_eq, eq_self, reduceCtorEq, Nat.reduceEqDiff, Nat.reduceAdd, Nat.reduceMul, Nat.reduceSub, Nat.reduceLT, Nat.reduceLeDiff, Nat.reduceDiv, Nat.add_zero, Nat.zero_add, Nat.not_lt_zero, Nat.zero_le, Nat.le_refl, Nat.lt_irrefl, l_eq_l, m_eq_l, l_eq_m, Int32.reduceLT, Int32.reduceLE, Int32.reduceAdd, Int32.reduceSub, Int32.reduceMul, b01_0, b01_1, b10_0, z_ne_o, o_ne_z, zn_add, zn_addl, zn_ladd, zn_mull, zn_subl, ix_zn, ix_l, ck_zn, ck_l, zn_le, zn_le_l, l_le_zn, zn_lt, zn_lt_l, l_lt_zn, zn_eq, zn_eq_l, l_eq_zn, zn_eq_m, m_eq_zn, m_le_zn, zn_lt_m, imin_zn, imax_zn, zn_le_m, h.len]
  · subst e
    simp (disch := omega) only [↓lt_u, ↓jn_u, ↓bd_s, bd_s, ↓rf_s, rf_s, ↓nl_s, ↓nl_n, nl_s, nl_n, ↓reduceIte, ↓ckb24, ↓ckb256, ckb_T, ckb01, ↓ck_zn, ↓ck_l, ck_zn, ck_l, vsi_i, vsi_l, vsi_r, vsi_k, vsi_n, vsi_w, vsl_i, vsl_l, vsl_r, vsl_k, vsl_n, vsl_w, vsr_i, vsr_l, vsr_r, vsr_k, vsr_n, vsr_w, and_self, and_true, true_and, and_false, false_and, or_self, or_true, true_or, or_false, false_or, not_true_eq_false, not_false_eq_true, ne_eq, eq_self, reduceCtorEq, Nat.reduceEqDiff, Nat.reduceAdd, Nat.reduceMul, Nat.reduceSub, Nat.reduceLT, Nat.reduceLeDiff, Nat.reduceDiv, Nat.add_zero, Nat.zero_add, Nat.not_lt_zero, Nat.zero_le, Nat.le_refl, Nat.lt_irrefl, l_eq_l, m_eq_l, l_eq_m, Int32.reduceLT, Int32.reduceLE, Int32.reduceAdd, Int32.reduceSub, Int32.reduceMul, b01_0, b01_1, b10_0, z_ne_o, o_ne_z, zn_add, zn_addl, zn_ladd, zn_mull, zn_subl, ix_zn, ix_l, ck_zn, ck_l, zn_le, zn_le_l, l_le_zn, zn_lt, zn_lt_l, l_lt_zn, zn_eq, zn_eq_l, l_eq_zn, zn_eq_m, m_eq_zn, m_le_zn, zn_lt_m, imin_zn, imax_zn, zn_le_m, ↓bde (xs_vowelsOf h hw)]
  · subst e
    simp (disch := omega) only [↓lt_u, ↓jn_u, ↓bd_s, bd_s, ↓rf_s, rf_s, ↓nl_s, ↓nl_n, nl_s, nl_n, ↓reduceIte, ↓ckb24, ↓ckb256, ckb_T, ckb01, ↓ck_zn, ↓ck_l, ck_zn, ck_l, vsi_i, vsi_l, vsi_r, vsi_k, vsi_n, vsi_w, vsl_i, vsl_l, vsl_r, vsl_k, vsl_n, vsl_w, vsr_i, vsr_l, vsr_r, vsr_k, vsr_n, vsr_w, and_self, and_true, true_and, and_false, false_and, or_self, or_true, true_or, or_false, false_or, not_true_eq_false, not_false_eq_true, ne_eq, eq_self, reduceCtorEq, Nat.reduceEqDiff, Nat.reduceAdd, Nat.reduceMul, Nat.reduceSub, Nat.reduceLT, Nat.reduceLeDiff, Nat.reduceDiv, Nat.add_zero, Nat.zero_add, Nat.not_lt_zero, Nat.zero_le, Nat.le_refl, Nat.lt_irrefl, l_eq_l, m_eq_l, l_eq_m, Int32.reduceLT, Int32.reduceLE, Int32.reduceAdd, Int32.reduceSub, Int32.reduceMul, b01_0, b01_1, b10_0, z_ne_o, o_ne_z, zn_add, zn_addl, zn_ladd, zn_mull, zn_subl, ix_zn, ix_l, ck_zn, ck_l, zn_le, zn_le_l, l_le_zn, zn_lt, zn_lt_l, l_lt_zn, zn_eq, zn_eq_l, l_eq_zn, zn_eq_m, m_eq_zn, m_le_zn, zn_lt_m, imin_zn, imax_zn, zn_le_m, h.mn]
  · subst e
    simp (disch := omega) only [↓lt_u, ↓jn_u, ↓bd_s, bd_s, ↓rf_s, rf_s, ↓nl_s, ↓nl_n, nl_s, nl_n, ↓reduceIte, ↓ckb24, ↓ckb256, ckb_T, ckb01, ↓ck_zn, ↓ck_l, ck_zn, ck_l, vsi_i, vsi_l, vsi_r, vsi_k, vsi_n, vsi_w, vsl_i, vsl_l, vsl_r, vsl_k, vsl_n, vsl_w, vsr_i, vsr_l, vsr_r, vsr_k, vsr_n, vsr_w, and_self, and_true, true_and, and_false, false_and, or_self, or_true, true_or, or_false, false_or, not_true_eq_false, not_false_eq_true, ne_eq, eq_self, reduceCtorEq, Nat.reduceEqDiff, Nat.reduceAdd, Nat.reduceMul, Nat.reduceSub, Nat.reduceLT, Nat.reduceLeDiff, Nat.reduceDiv, Nat.add_zero, Nat.zero_add, Nat.not_lt_zero, Nat.zero_le, Nat.le_refl, Nat.lt_irrefl, l_eq_l, m_eq_l, l_eq_m, Int32.reduceLT, Int32.reduceLE, Int32.reduceAdd, Int32.reduceSub, Int32.reduceMul, b01_0, b01_1, b10_0, z_ne_o, o_ne_z, zn_add, zn_addl, zn_ladd, zn_mull, zn_subl, ix_zn, ix_l, ck_zn, ck_l, zn_le, zn_le_l, l_le_zn, zn_lt, zn_lt_l, l_lt_zn, zn_eq, zn_eq_l, l_eq_zn, zn_eq_m, m_eq_zn, m_le_zn, zn_lt_m, imin_zn, imax_zn, zn_le_m, h.sc]
  · simp (disch := omega) only [↓lt_u, ↓jn_u, ↓bd_s, bd_s, ↓rf_s, rf_s, ↓nl_s, ↓nl_n, nl_s, nl_n, ↓reduceIte, ↓ckb24, ↓ckb256, ckb_T, ckb01, ↓ck_zn, ↓ck_l, ck_zn, ck_l, vsi_i, vsi_l, vsi_r, vsi_k, vsi_n, vsi_w, vsl_i, vsl_l, vsl_r, vsl_k, vsl_n, vsl_w, vsr_i, vsr_l, vsr_r, vsr_k, vsr_n, vsr_w, and_self, and_true, true_and, and_false, false_and, or_self, or_true, true_or, or_false, false_or, not_true_eq_false, not_false_eq_true, ne_eq, eq_self, reduceCtorEq, Nat.reduceEqDiff, Nat.reduceAdd, Nat.reduceMul, Nat.reduceSub, Nat.reduceLT, Nat.reduceLeDiff, Nat.reduceDiv, Nat.add_zero, Nat.zero_add, Nat.not_lt_zero, Nat.zero_le, Nat.le_refl, Nat.lt_irrefl, l_eq_l, m_eq_l, l_eq_m, Int32.reduceLT, Int32.reduceLE, Int32.reduceAdd, Int32.reduceSub, Int32.reduceMul, b01_0, b01_1, b10_0, z_ne_o, o_ne_z, zn_add, zn_addl, zn_ladd, zn_mull, zn_subl, ix_zn, ix_l, ck_zn, ck_l, zn_le, zn_le_l, l_le_zn, zn_lt, zn_lt_l, l_lt_zn, zn_eq, zn_eq_l, l_eq_zn, zn_eq_m, m_eq_zn, m_le_zn, zn_lt_m, imin_zn, imax_zn, zn_le_m, ↓bde (xs_vowelIn h hw _), xs_vowelIn h hw, show ¬ q = 0 by omega, show ¬ q = 1 by omega, show ¬ q = 2 by omega, show ¬ q = 3 by omega]
theorem ms_word (h0 : CY 83 C M) {w q : Nat} (hw : w < C.nw) (hq : q ≤ 8) : m_word (zn w) (zn q) M = some (wdv C w q, M.si 72 13 0) := by
  have h := h0.fy (f13 (M := M))
  have b1 := h.ok.nw10
  unfold m_word
  rw [lt_u, bde (mt_word h hw), jn_u, if_neg (by decide), bde (mt_8 hq _), if_neg (by decide)]
  generalize M.si 72 13 0 = N at h
  unfold wdv
  rcases (show q = 0 ∨ q = 1 ∨ q = 2 ∨ q = 3 ∨ 4 ≤ q by omega) with e | e | e | e | e
  · subst e
    simp (disch := omega) only [↓lt_u, ↓jn_u, ↓bd_s, bd_s, ↓rf_s, rf_s, ↓nl_s, ↓nl_n, nl_s, nl_n, ↓reduceIte, ↓ckb24, ↓ckb256, ckb_T, ckb01, ↓ck_zn, ↓ck_l, ck_zn, ck_l, vsi_i, vsi_l, vsi_r, vsi_k, vsi_n, vsi_w, vsl_i, vsl_l, vsl_r, vsl_k, vsl_n, vsl_w, vsr_i, vsr_l, vsr_r, vsr_k, vsr_n, vsr_w, and_self, and_true, true_and, and_false, false_and, or_self, or_true, true_or, or_false, false_or, not_true_eq_false, not_false_eq_true, ne_eq, eq_self, reduceCtorEq, Nat.reduceEqDiff, Nat.reduceAdd, Nat.reduceMul, Nat.reduceSub, Nat.reduceLT, Nat.reduceLeDiff, Nat.reduceDiv, Nat.add_zero, Nat.zero_add, Nat.not_lt_zero, Nat.zero_le, Nat.le_refl, Nat.lt_irrefl, l_eq_l, m_eq_l, l_eq_m, Int32.reduceLT, Int32.reduceLE, Int32.reduceAdd, Int32.reduceSub, Int32.reduceMul, b01_0, b01_1, b10_0, z_ne_o, o_ne_z, zn_add, zn_addl, zn_ladd, zn_mull, zn_subl, ix_zn, ix_l, ck_zn, ck_l, zn_le, zn_le_l, l_le_zn, zn_lt, zn_lt_l, l_lt_zn, zn_eq, zn_eq_l, l_eq_zn, zn_eq_m, m_eq_zn, m_le_zn, zn_lt_m, imin_zn, imax_zn, zn_le_m, h.len]
  · subst e
    simp (disch := omega) only [↓lt_u, ↓jn_u, ↓bd_s, bd_s, ↓rf_s, rf_s, ↓nl_s, ↓nl_n, nl_s, nl_n, ↓reduceIte, ↓ckb24, ↓ckb256, ckb_T, ckb01, ↓ck_zn, ↓ck_l, ck_zn, ck_l, vsi_i, vsi_l, vsi_r, vsi_k, vsi_n, vsi_w, vsl_i, vsl_l, vsl_r, vsl_k, vsl_n, vsl_w, vsr_i, vsr_l, vsr_r, vsr_k, vsr_n, vsr_w, and_self, and_true, true_and, and_false, false_and, or_self, or_true, true_or, or_false, false_or, not_true_eq_false, not_false_eq_true, ne_eq, eq_self, reduceCtorEq, Nat.reduceEqDiff, Nat.reduceAdd, Nat.reduceMul, Nat.reduceSub, Nat.reduceLT, Nat.reduceLeDiff, Nat.reduceDiv, Nat.add_zero, Nat.zero_add, Nat.not_lt_zero, Nat.zero_le, Nat.le_refl, Nat.lt_irrefl, l_eq_l, m_eq_l, l_eq_m, Int32.reduceLT, Int32.reduceLE, Int32.reduceAdd, Int32.reduceSub, Int32.reduceMul, b01_0, b01_1, b10_0, z_ne_o, o_ne_z, zn_add, zn_addl, zn_ladd, zn_mull, zn_subl, ix_zn, ix_l, ck_zn, ck_l, zn_le, zn_le_l, l_le_zn, zn_lt, zn_lt_l, l_lt_zn, zn_eq, zn_eq_l, l_eq_zn, zn_eq_m, m_eq_zn, m_le_zn, zn_lt_m, imin_zn, imax_zn, zn_le_m, ↓bde (ms_vowelsIn h hw)]
  · subst e
    have := h.mn w hw
    simp (disch := omega) only [↓lt_u, ↓jn_u, ↓bd_s, bd_s, ↓rf_s, rf_s, ↓nl_s, ↓nl_n, nl_s, nl_n, ↓reduceIte, ↓ckb24, ↓ckb256, ckb_T, ckb01, ↓ck_zn, ↓ck_l, ck_zn, ck_l, vsi_i, vsi_l, vsi_r, vsi_k, vsi_n, vsi_w, vsl_i, vsl_l, vsl_r, vsl_k, vsl_n, vsl_w, vsr_i, vsr_l, vsr_r, vsr_k, vsr_n, vsr_w, and_self, and_true, true_and, and_false, false_and, or_self, or_true, true_or, or_false, false_or, not_true_eq_false, not_false_eq_true, ne_eq, eq_self, reduceCtorEq, Nat.reduceEqDiff, Nat.reduceAdd, Nat.reduceMul, Nat.reduceSub, Nat.reduceLT, Nat.reduceLeDiff, Nat.reduceDiv, Nat.add_zero, Nat.zero_add, Nat.not_lt_zero, Nat.zero_le, Nat.le_refl, Nat.lt_irrefl, l_eq_l, m_eq_l, l_eq_m, Int32.reduceLT, Int32.reduceLE, Int32.reduceAdd, Int32.reduceSub, Int32.reduceMul, b01_0, b01_1, b10_0, z_ne_o, o_ne_z, zn_add, zn_addl, zn_ladd, zn_mull, zn_subl, ix_zn, ix_l, ck_zn, ck_l, zn_le, zn_le_l, l_le_zn, zn_lt, zn_lt_l, l_lt_zn, zn_eq, zn_eq_l, l_eq_zn, zn_eq_m, m_eq_zn, m_le_zn, zn_lt_m, imin_zn, imax_zn, zn_le_m, show 2 * w + 2 - 2 = 2 * w by omega, this]
  · subst e
    have := h.sc w hw
    simp (disch := omega) only [↓lt_u, ↓jn_u, ↓bd_s, bd_s, ↓rf_s, rf_s, ↓nl_s, ↓nl_n, nl_s, nl_n, ↓reduceIte, ↓ckb24, ↓ckb256, ckb_T, ckb01, ↓ck_zn, ↓ck_l, ck_zn, ck_l, vsi_i, vsi_l, vsi_r, vsi_k, vsi_n, vsi_w, vsl_i, vsl_l, vsl_r, vsl_k, vsl_n, vsl_w, vsr_i, vsr_l, vsr_r, vsr_k, vsr_n, vsr_w, and_self, and_true, true_and, and_false, false_and, or_self, or_true, true_or, or_false, false_or, not_true_eq_false, not_false_eq_true, ne_eq, eq_self, reduceCtorEq, Nat.reduceEqDiff, Nat.reduceAdd, Nat.reduceMul, Nat.reduceSub, Nat.reduceLT, Nat.reduceLeDiff, Nat.reduceDiv, Nat.add_zero, Nat.zero_add, Nat.not_lt_zero, Nat.zero_le, Nat.le_refl, Nat.lt_irrefl, l_eq_l, m_eq_l, l_eq_m, Int32.reduceLT, Int32.reduceLE, Int32.reduceAdd, Int32.reduceSub, Int32.reduceMul, b01_0, b01_1, b10_0, z_ne_o, o_ne_z, zn_add, zn_addl, zn_ladd, zn_mull, zn_subl, ix_zn, ix_l, ck_zn, ck_l, zn_le, zn_le_l, l_le_zn, zn_lt, zn_lt_l, l_lt_zn, zn_eq, zn_eq_l, l_eq_zn, zn_eq_m, m_eq_zn, m_le_zn, zn_lt_m, imin_zn, imax_zn, zn_le_m, show 2 * w + 3 - 2 = 2 * w + 1 by omega, this]
  · simp (disch := omega) only [↓lt_u, ↓jn_u, ↓bd_s, bd_s, ↓rf_s, rf_s, ↓nl_s, ↓nl_n, nl_s, nl_n, ↓reduceIte, ↓ckb24, ↓ckb256, ckb_T, ckb01, ↓ck_zn, ↓ck_l, ck_zn, ck_l, vsi_i, vsi_l, vsi_r, vsi_k, vsi_n, vsi_w, vsl_i, vsl_l, vsl_r, vsl_k, vsl_n, vsl_w, vsr_i, vsr_l, vsr_r, vsr_k, vsr_n, vsr_w, and_self, and_true, true_and, and_false, false_and, or_self, or_true, true_or, or_false, false_or, not_true_eq_false, not_false_eq_true, ne_eq, eq_self, reduceCtorEq, Nat.reduceEqDiff, Nat.reduceAdd, Nat.reduceMul, Nat.reduceSub, Nat.reduceLT, Nat.reduceLeDiff, Nat.reduceDiv, Nat.add_zero, Nat.zero_add, Nat.not_lt_zero, Nat.zero_le, Nat.le_refl, Nat.lt_irrefl, l_eq_l, m_eq_l, l_eq_m, Int32.reduceLT, Int32.reduceLE, Int32.reduceAdd, Int32.reduceSub, Int32.reduceMul, b01_0, b01_1, b10_0, z_ne_o, o_ne_z, zn_add, zn_addl, zn_ladd, zn_mull, zn_subl, ix_zn, ix_l, ck_zn, ck_l, zn_le, zn_le_l, l_le_zn, zn_lt, zn_lt_l, l_lt_zn, zn_eq, zn_eq_l, l_eq_zn, zn_eq_m, m_eq_zn, m_le_zn, zn_lt_m, imin_zn, imax_zn, zn_le_m, ↓bde (ms_often h hw _), ms_often h hw, e, show ¬ q = 0 by omega, show ¬ q = 1 by omega, show ¬ q = 2 by omega, show ¬ q = 3 by omega]
theorem call_word (p q : Int32) : Call5 (lw_word p q) (m_word p q) := by
  refine Call5.of (fun C A l hC hA hl => ?_)
  have b1 := hC.nw10
  rcases dm_or (show C.nw < 2147483648 by omega) p with ⟨w, hw, rfl⟩ | hn
  · rcases dl_or (n := 8) (by omega) q with ⟨x, hx, rfl⟩ | hn2
    · exact Or.inl ⟨_, fun M h _ _ => xs_word h hw hx, fun M h _ _ => ms_word h hw hx⟩
    · refine Or.inr ⟨fun M h _ _ => ?_, fun M h _ _ => ?_⟩
      · unfold x_word
        rw [bde (xt_word h hw), jn_u, if_neg (by decide), bde (xn_8 hn2 M), if_pos rfl]
      · unfold m_word
        rw [lt_u, bde (mt_word (h.fy f13) hw), jn_u, if_neg (by decide), bde (mn_8 hn2 _), if_pos rfl]
        rfl
  · refine Or.inr ⟨fun M h _ _ => ?_, fun M h _ _ => ?_⟩
    · unfold x_word
      rw [bde (xn_word h hn), jn_u, if_pos rfl]
    · unfold m_word
      rw [lt_u, bde (mn_word (h.fy f13) hn), jn_u, if_pos rfl]
      rfl
/-! errand -/
def erv (C : SV) (d : Int32) (e q : Nat) : Int32 := if q = 0 then zn (C.who e) else if q = 1 then zn (C.em e) else if q = 2 then zn (C.wh e) else if q = 3 then zn (C.wo e) else ((d >>> (zn e &&& 31)) &&& 1)
theorem xt_err (h : CX C M) {e : Nat} (he : e < C.ne) : x_in (zn e).toInt64 0 ((M.i 20 13) - 1).toInt64 M = some (1, M) := by
  have b := h.ok.ne8
  rw [h.ne, x_in0, if_pos (by rw [dm_t he (by omega)]; trivial)]
theorem xn_err (h : CX C M) {p : Int32} (q : ¬ (0 ≤ p ∧ p ≤ zn C.ne - 1)) : x_in p.toInt64 0 ((M.i 20 13) - 1).toInt64 M = some (0, M) := by
  rw [h.ne, x_in0, if_neg q]
theorem mt_err (h : CY 83 C M) {e : Nat} (he : e < C.ne) : m_in (zn e) 0 ((M.i 72 7) - 1) M = some (1, M) := by
  have b := h.ok.ne8
  rw [h.ne, m_in32, if_pos (by rw [dm_t he (by omega)]; trivial)]
theorem mn_err (h : CY 83 C M) {p : Int32} (q : ¬ (0 ≤ p ∧ p ≤ zn C.ne - 1)) : m_in p 0 ((M.i 72 7) - 1) M = some (0, M) := by
  rw [h.ne, m_in32, if_neg q]
theorem xs_errand (h : CX C M) (ha : RvX 21 A M) {e q : Nat} (he : e < C.ne) (hq : q ≤ 4) : x_errand (zn e) (zn q) M = some (some (erv C (A 13) e q), M) := by
  have b1 := h.ok.ne8
  unfold x_errand
  rw [bde (xt_err h he), if_neg (by decide)]
  unfold erv
  rcases (show q = 0 ∨ q = 1 ∨ q = 2 ∨ q = 3 ∨ q = 4 by omega) with e1 | e1 | e1 | e1 | e1
  · subst e1
    simp (disch := omega) only [↓lt_u, ↓jn_u, ↓bd_s, bd_s, ↓rf_s, rf_s, ↓nl_s, ↓nl_n, nl_s, nl_n, ↓reduceIte, ↓ckb24, ↓ckb256, ckb_T, ckb01, ↓ck_zn, ↓ck_l, ck_zn, ck_l, vsi_i, vsi_l, vsi_r, vsi_k, vsi_n, vsi_w, vsl_i, vsl_l, vsl_r, vsl_k, vsl_n, vsl_w, vsr_i, vsr_l, vsr_r, vsr_k, vsr_n, vsr_w, and_self, and_true, true_and, and_false, false_and, or_self, or_true, true_or, or_false, false_or, not_true_eq_false, not_false_eq_true, ne_eq, eq_self, reduceCtorEq, Nat.reduceEqDiff, Nat.reduceAdd, Nat.reduceMul, Nat.reduceSub, Nat.reduceLT, Nat.reduceLeDiff, Nat.reduceDiv, Nat.add_zero, Nat.zero_add, Nat.not_lt_zero, Nat.zero_le, Nat.le_refl, Nat.lt_irrefl, l_eq_l, m_eq_l, l_eq_m, Int32.reduceLT, Int32.reduceLE, Int32.reduceAdd, Int32.reduceSub, Int32.reduceMul, b01_0, b01_1, b10_0, z_ne_o, o_ne_z, zn_add, zn_addl, zn_ladd, zn_mull, zn_subl, ix_zn, ix_l, ck_zn, ck_l, zn_le, zn_le_l, l_le_zn, zn_lt, zn_lt_l, l_lt_zn, zn_eq, zn_eq_l, l_eq_zn, zn_eq_m, m_eq_zn, m_le_zn, zn_lt_m, imin_zn, imax_zn, zn_le_m, h.who]
  · subst e1
    simp (disch := omega) only [↓lt_u, ↓jn_u, ↓bd_s, bd_s, ↓rf_s, rf_s, ↓nl_s, ↓nl_n, nl_s, nl_n, ↓reduceIte, ↓ckb24, ↓ckb256, ckb_T, ckb01, ↓ck_zn, ↓ck_l, ck_zn, ck_l, vsi_i, vsi_l, vsi_r, vsi_k, vsi_n, vsi_w, vsl_i, vsl_l, vsl_r, vsl_k, vsl_n, vsl_w, vsr_i, vsr_l, vsr_r, vsr_k, vsr_n, vsr_w, and_self, and_true, true_and, and_false, false_and, or_self, or_true, true_or, or_false, false_or, not_true_eq_false, not_false_eq_true, ne_eq, eq_self, reduceCtorEq, Nat.reduceEqDiff, Nat.reduceAdd, Nat.reduceMul, Nat.reduceSub, Nat.reduceLT, Nat.reduceLeDiff, Nat.reduceDiv, Nat.add_zero, Nat.zero_add, Nat.not_lt_zero, Nat.zero_le, Nat.le_refl, Nat.lt_irrefl, l_eq_l, m_eq_l, l_eq_m, Int32.reduceLT, Int32.reduceLE, Int32.reduceAdd, Int32.reduceSub, Int32.reduceMul, b01_0, b01_1, b10_0, z_ne_o, o_ne_z, zn_add, zn_addl, zn_ladd, zn_mull, zn_subl, ix_zn, ix_l, ck_zn, ck_l, zn_le, zn_le_l, l_le_zn, zn_lt, zn_lt_l, l_lt_zn, zn_eq, zn_eq_l, l_eq_zn, zn_eq_m, m_eq_zn, m_le_zn, zn_lt_m, imin_zn, imax_zn, zn_le_m, h.em]
  · subst e1
    simp (disch := omega) only [↓lt_u, ↓jn_u, ↓bd_s, bd_s, ↓rf_s, rf_s, ↓nl_s, ↓nl_n, nl_s, nl_n, ↓reduceIte, ↓ckb24, ↓ckb256, ckb_T, ckb01, ↓ck_zn, ↓ck_l, ck_zn, ck_l, vsi_i, vsi_l, vsi_r, vsi_k, vsi_n, vsi_w, vsl_i, vsl_l, vsl_r, vsl_k, vsl_n, vsl_w, vsr_i, vsr_l, vsr_r, vsr_k, vsr_n, vsr_w, and_self, and_true, true_and, and_false, false_and, or_self, or_true, true_or, or_false, false_or, not_true_eq_false, not_false_eq_true, ne_eq, eq_self, reduceCtorEq, Nat.reduceEqDiff, Nat.reduceAdd, Nat.reduceMul, Nat.reduceSub, Nat.reduceLT, Nat.reduceLeDiff, Nat.reduceDiv, Nat.add_zero, Nat.zero_add, Nat.not_lt_zero, Nat.zero_le, Nat.le_refl, Nat.lt_irrefl, l_eq_l, m_eq_l, l_eq_m, Int32.reduceLT, Int32.reduceLE, Int32.reduceAdd, Int32.reduceSub, Int32.reduceMul, b01_0, b01_1, b10_0, z_ne_o, o_ne_z, zn_add, zn_addl, zn_ladd, zn_mull, zn_subl, ix_zn, ix_l, ck_zn, ck_l, zn_le, zn_le_l, l_le_zn, zn_lt, zn_lt_l, l_lt_zn, zn_eq, zn_eq_l, l_eq_zn, zn_eq_m, m_eq_zn, m_le_zn, zn_lt_m, imin_zn, imax_zn, zn_le_m, h.wh]
  · subst e1
    simp (disch := omega) only [↓lt_u, ↓jn_u, ↓bd_s, bd_s, ↓rf_s, rf_s, ↓nl_s, ↓nl_n, nl_s, nl_n, ↓reduceIte, ↓ckb24, ↓ckb256, ckb_T, ckb01, ↓ck_zn, ↓ck_l, ck_zn, ck_l, vsi_i, vsi_l, vsi_r, vsi_k, vsi_n, vsi_w, vsl_i, vsl_l, vsl_r, vsl_k, vsl_n, vsl_w, vsr_i, vsr_l, vsr_r, vsr_k, vsr_n, vsr_w, and_self, and_true, true_and, and_false, false_and, or_self, or_true, true_or, or_false, false_or, not_true_eq_false, not_false_eq_true, ne_eq, eq_self, reduceCtorEq, Nat.reduceEqDiff, Nat.reduceAdd, Nat.reduceMul, Nat.reduceSub, Nat.reduceLT, Nat.reduceLeDiff, Nat.reduceDiv, Nat.add_zero, Nat.zero_add, Nat.not_lt_zero, Nat.zero_le, Nat.le_refl, Nat.lt_irrefl, l_eq_l, m_eq_l, l_eq_m, Int32.reduceLT, Int32.reduceLE, Int32.reduceAdd, Int32.reduceSub, Int32.reduceMul, b01_0, b01_1, b10_0, z_ne_o, o_ne_z, zn_add, zn_addl, zn_ladd, zn_mull, zn_subl, ix_zn, ix_l, ck_zn, ck_l, zn_le, zn_le_l, l_le_zn, zn_lt, zn_lt_l, l_lt_zn, zn_eq, zn_eq_l, l_eq_zn, zn_eq_m, m_eq_zn, m_le_zn, zn_lt_m, imin_zn, imax_zn, zn_le_m, h.wo]
  · subst e1
    have i13 := hx13 ha
    rcases and1 ((A 13) >>> (zn e &&& 31)) with g | g
    · simp (disch := omega) only [↓lt_u, ↓jn_u, ↓bd_s, bd_s, ↓rf_s, rf_s, ↓nl_s, ↓nl_n, nl_s, nl_n, ↓reduceIte, ↓ckb24, ↓ckb256, ckb_T, ckb01, ↓ck_zn, ↓ck_l, ck_zn, ck_l, vsi_i, vsi_l, vsi_r, vsi_k, vsi_n, vsi_w, vsl_i, vsl_l, vsl_r, vsl_k, vsl_n, vsl_w, vsr_i, vsr_l, vsr_r, vsr_k, vsr_n, vsr_w, and_self, and_true, true_and, and_false, false_and, or_self, or_true, true_or, or_false, false_or, not_true_eq_false, not_false_eq_true, ne_eq, eq_self, reduceCtorEq, Nat.reduceEqDiff, Nat.reduceAdd, Nat.reduceMul, Nat.reduceSub, Nat.reduceLT, Nat.reduceLeDiff, Nat.reduceDiv, Nat.add_zero, Nat.zero_add, Nat.not_lt_zero, Nat.zero_le, Nat.le_refl, Nat.lt_irrefl, l_eq_l, m_eq_l, l_eq_m, Int32.reduceLT, Int32.reduceLE, Int32.reduceAdd, Int32.reduceSub, Int32.reduceMul, b01_0, b01_1, b10_0, z_ne_o, o_ne_z, zn_add, zn_addl, zn_ladd, zn_mull, zn_subl, ix_zn, ix_l, ck_zn, ck_l, zn_le, zn_le_l, l_le_zn, zn_lt, zn_lt_l, l_lt_zn, zn_eq, zn_eq_l, l_eq_zn, zn_eq_m, m_eq_zn, m_le_zn, zn_lt_m, imin_zn, imax_zn, zn_le_m, i13, ↓bde (xs_has _ _ _), xs_has, g]
    · simp (disch := omega) only [↓lt_u, ↓jn_u, ↓bd_s, bd_s, ↓rf_s, rf_s, ↓nl_s, ↓nl_n, nl_s, nl_n, ↓reduceIte, ↓ckb24, ↓ckb256, ckb_T, ckb01, ↓ck_zn, ↓ck_l, ck_zn, ck_l, vsi_i, vsi_l, vsi_r, vsi_k, vsi_n, vsi_w, vsl_i, vsl_l, vsl_r, vsl_k, vsl_n, vsl_w, vsr_i, vsr_l, vsr_r, vsr_k, vsr_n, vsr_w, and_self, and_true, true_and, and_false, false_and, or_self, or_true, true_or, or_false, false_or, not_true_eq_false, not_false_eq_true, ne_eq, eq_self, reduceCtorEq, Nat.reduceEqDiff, Nat.reduceAdd, Nat.reduceMul, Nat.reduceSub, Nat.reduceLT, Nat.reduceLeDiff, Nat.reduceDiv, Nat.add_zero, Nat.zero_add, Nat.not_lt_zero, Nat.zero_le, Nat.le_refl, Nat.lt_irrefl, l_eq_l, m_eq_l, l_eq_m, Int32.reduceLT, Int32.reduceLE, Int32.reduceAdd, Int32.reduceSub, Int32.reduceMul, b01_0, b01_1, b10_0, z_ne_o, o_ne_z, zn_add, zn_addl, zn_ladd, zn_mull, zn_subl, ix_zn, ix_l, ck_zn, ck_l, zn_le, zn_le_l, l_le_zn, zn_lt, zn_lt_l, l_lt_zn, zn_eq, zn_eq_l, l_eq_zn, zn_eq_m, m_eq_zn, m_le_zn, zn_lt_m, imin_zn, imax_zn, zn_le_m, i13, ↓bde (xs_has _ _ _), xs_has, g]
theorem ms_errand (h0 : CY 83 C M) (ha0 : RvY 73 A M) {e q : Nat} (he : e < C.ne) (hq : q ≤ 4) : m_errand (zn e) (zn q) M = some (erv C (A 13) e q, M.si 72 13 0) := by
  have h := h0.fy (f13 (M := M))
  have ha := ha0.fy (f13 (M := M))
  have b1 := h.ok.ne8
  unfold m_errand
  rw [lt_u, bde (mt_err h he), jn_u, if_neg (by decide), bde (mt_4 hq _), if_neg (by decide)]
  generalize M.si 72 13 0 = N at h ha
  unfold erv
  rcases (show q = 0 ∨ q = 1 ∨ q = 2 ∨ q = 3 ∨ q = 4 by omega) with e1 | e1 | e1 | e1 | e1
  · subst e1
    have g : ¬ (4 : Int32) ≤ zn 0 := by decide
    rw [if_neg g]
    have := ms_field0 h he
    rw [show m_field (zn e) (zn 0) N = _ from this, bd_s]
    rfl
  · subst e1
    have g : ¬ (4 : Int32) ≤ zn 1 := by decide
    rw [if_neg g]
    have := ms_field1 h he
    rw [show m_field (zn e) (zn 1) N = _ from this, bd_s]
    rfl
  · subst e1
    have g : ¬ (4 : Int32) ≤ zn 2 := by decide
    rw [if_neg g]
    have := ms_field2 h he
    rw [show m_field (zn e) (zn 2) N = _ from this, bd_s]
    rfl
  · subst e1
    have g : ¬ (4 : Int32) ≤ zn 3 := by decide
    rw [if_neg g]
    have := ms_field3 h he
    rw [show m_field (zn e) (zn 3) N = _ from this, bd_s]
    rfl
  · subst e1
    rw [if_pos (by decide), ck13, ix13, hy13 ha]
    rfl
theorem call_errand (p q : Int32) : Call5 (lw_errand p q) (m_errand p q) := by
  refine Call5.of (fun C A l hC hA hl => ?_)
  have b1 := hC.ne8
  rcases dm_or (show C.ne < 2147483648 by omega) p with ⟨e, he, rfl⟩ | hn
  · rcases dl_or (n := 4) (by omega) q with ⟨x, hx, rfl⟩ | hn2
    · exact Or.inl ⟨_, fun M h ha _ => xs_errand h ha he hx, fun M h ha _ => ms_errand h ha he hx⟩
    · have z : ∀ n : Nat, n ≤ 4 → ¬ q = zn n := by
        intro n hn3 e1
        apply hn2
        rw [e1, zn_le (by omega) (by omega)]
        exact ⟨zn_nonneg (by omega), hn3⟩
      refine Or.inr ⟨fun M h _ _ => ?_, fun M h _ _ => ?_⟩
      · unfold x_errand
        rw [bde (xt_err h he), if_neg (by decide), if_neg (show ¬ q = 0 from z 0 (by omega)), if_neg (show ¬ q = 1 from z 1 (by omega)), if_neg (show ¬ q = 2 from z 2 (by omega)), if_neg (show ¬ q = 3 from z 3 (by omega)), if_neg (show ¬ q = 4 from z 4 (by omega))]
      · unfold m_errand
        rw [lt_u, bde (mt_err (h.fy f13) he), jn_u, if_neg (by decide), bde (mn_4 hn2 _), if_pos rfl]
        rfl
  · refine Or.inr ⟨fun M h _ _ => ?_, fun M h _ _ => ?_⟩
    · unfold x_errand
      rw [bde (xn_err h hn), if_pos rfl]
    · unfold m_errand
      rw [lt_u, bde (mn_err (h.fy f13) hn), jn_u, if_pos rfl]
      rfl
/-! book -/
theorem call_book (p q : Int32) : Call5 (lw_book p q) (m_book p q) := by
  refine Call5.of (fun C A l hC hA hl => ?_)
  have b1 := hC.ns6
  rcases dm_or (show C.ns < 2147483648 by omega) p with ⟨s, hs, rfl⟩ | hn
  · rcases dl_or (n := 4) (by omega) q with ⟨x, hx, rfl⟩ | hn2
    · refine Or.inl ⟨A (14 + (5 * s + x)), fun M h ha _ => ?_, fun M h ha _ => ?_⟩
      · have hb := ha.2.2.2 (5 * s + x) (by omega)
        have hb' : M.i 25 (5 * s + x) = A (14 + (5 * s + x)) := hb
        unfold x_book
        rw [bde (xt_stat h hs), jn_u, if_neg (by decide), bde (xt_4 hx M), if_neg (by decide)]
        simp (disch := omega) only [↓lt_u, ↓jn_u, ↓bd_s, bd_s, ↓rf_s, rf_s, ↓nl_s, ↓nl_n, nl_s, nl_n, ↓reduceIte, ↓ckb24, ↓ckb256, ckb_T, ckb01, ↓ck_zn, ↓ck_l, ck_zn, ck_l, vsi_i, vsi_l, vsi_r, vsi_k, vsi_n, vsi_w, vsl_i, vsl_l, vsl_r, vsl_k, vsl_n, vsl_w, vsr_i, vsr_l, vsr_r, vsr_k, vsr_n, vsr_w, and_self, and_true, true_and, and_false, false_and, or_self, or_true, true_or, or_false, false_or, not_true_eq_false, not_false_eq_true, ne_eq, eq_self, reduceCtorEq, Nat.reduceEqDiff, Nat.reduceAdd, Nat.reduceMul, Nat.reduceSub, Nat.reduceLT, Nat.reduceLeDiff, Nat.reduceDiv, Nat.add_zero, Nat.zero_add, Nat.not_lt_zero, Nat.zero_le, Nat.le_refl, Nat.lt_irrefl, l_eq_l, m_eq_l, l_eq_m, Int32.reduceLT, Int32.reduceLE, Int32.reduceAdd, Int32.reduceSub, Int32.reduceMul, b01_0, b01_1, b10_0, z_ne_o, o_ne_z, zn_add, zn_addl, zn_ladd, zn_mull, zn_subl, ix_zn, ix_l, ck_zn, ck_l, zn_le, zn_le_l, l_le_zn, zn_lt, zn_lt_l, l_lt_zn, zn_eq, zn_eq_l, l_eq_zn, zn_eq_m, m_eq_zn, m_le_zn, zn_lt_m, imin_zn, imax_zn, zn_le_m, hb']
      · have h' := h.fy (f13 (M := M))
        have ha' := ha.fy (f13 (M := M))
        have hb := ha' (14 + (5 * s + x)) (by omega)
        unfold m_book
        rw [lt_u, bde (mt_stat h' hs), jn_u, if_neg (by decide), bde (mt_4 hx _), if_neg (by decide)]
        generalize M.si 72 13 0 = N at hb
        simp (disch := omega) only [↓lt_u, ↓jn_u, ↓bd_s, bd_s, ↓rf_s, rf_s, ↓nl_s, ↓nl_n, nl_s, nl_n, ↓reduceIte, ↓ckb24, ↓ckb256, ckb_T, ckb01, ↓ck_zn, ↓ck_l, ck_zn, ck_l, vsi_i, vsi_l, vsi_r, vsi_k, vsi_n, vsi_w, vsl_i, vsl_l, vsl_r, vsl_k, vsl_n, vsl_w, vsr_i, vsr_l, vsr_r, vsr_k, vsr_n, vsr_w, and_self, and_true, true_and, and_false, false_and, or_self, or_true, true_or, or_false, false_or, not_true_eq_false, not_false_eq_true, ne_eq, eq_self, reduceCtorEq, Nat.reduceEqDiff, Nat.reduceAdd, Nat.reduceMul, Nat.reduceSub, Nat.reduceLT, Nat.reduceLeDiff, Nat.reduceDiv, Nat.add_zero, Nat.zero_add, Nat.not_lt_zero, Nat.zero_le, Nat.le_refl, Nat.lt_irrefl, l_eq_l, m_eq_l, l_eq_m, Int32.reduceLT, Int32.reduceLE, Int32.reduceAdd, Int32.reduceSub, Int32.reduceMul, b01_0, b01_1, b10_0, z_ne_o, o_ne_z, zn_add, zn_addl, zn_ladd, zn_mull, zn_subl, ix_zn, ix_l, ck_zn, ck_l, zn_le, zn_le_l, l_le_zn, zn_lt, zn_lt_l, l_lt_zn, zn_eq, zn_eq_l, l_eq_zn, zn_eq_m, m_eq_zn, m_le_zn, zn_lt_m, imin_zn, imax_zn, zn_le_m, show 14 + 5 * s + x = 14 + (5 * s + x) by omega, hb]
    · refine Or.inr ⟨fun M h _ _ => ?_, fun M h _ _ => ?_⟩
      · unfold x_book
        rw [bde (xt_stat h hs), jn_u, if_neg (by decide), bde (xn_4 hn2 M), if_pos rfl]
      · unfold m_book
        rw [lt_u, bde (mt_stat (h.fy f13) hs), jn_u, if_neg (by decide), bde (mn_4 hn2 _), if_pos rfl]
        rfl
  · refine Or.inr ⟨fun M h _ _ => ?_, fun M h _ _ => ?_⟩
    · unfold x_book
      rw [bde (xn_stat h hn), jn_u, if_pos rfl]
    · unfold m_book
      rw [lt_u, bde (mn_stat (h.fy f13) hn), jn_u, if_pos rfl]
      rfl
/-! traveller -/
def wsm (C : SV) (d p : Int32) : Int32 := itr (fun e s => s + (if zn (C.who e) = p then (if ((d >>> (zn e &&& 31)) &&& 1) = 1 then zn (C.wo e) else 0) else 0)) C.ne 0
def trv (C : SV) (A : Nat → Int32) (t q : Nat) : Int32 := if q = 0 then A t else if q = 1 then A (4 + t) else if q = 2 then A (8 + t) else if q = 3 then opn C (A 13) (zn t) else wsm C (A 13) (zn t)
theorem xs_wsm (h : CX C M) (ha : RvX 21 A M) (t : Nat) : x_traveller_L93 (zn t) FU 0 0 M = some (some (wsm C (A 13) (zn t)), M) := by
  have b1 := h.ok.ne8
  have i13 := hx13 ha
  refine nlp (fun n k s => x_traveller_L93 (zn t) n s (zn k) M) C.ne FU (FU_lt (by omega)) (fun e s => s + (if zn (C.who e) = (zn t) then (if (((A 13) >>> (zn e &&& 31)) &&& 1) = 1 then zn (C.wo e) else 0) else 0)) 0 _ (fun n k hk => ?_) (fun n => ?_)
  · have g : ¬ C.ne ≤ k := by omega
    by_cases c1 : zn (C.who k) = zn t
    · by_cases c2 : (((A 13) >>> (zn k &&& 31)) &&& 1) = 1
      · simp (disch := omega) only [x_traveller_L93, ↓lt_u, ↓jn_u, ↓bd_s, bd_s, ↓rf_s, rf_s, ↓nl_s, ↓nl_n, nl_s, nl_n, ↓reduceIte, ↓ckb24, ↓ckb256, ckb_T, ckb01, ↓ck_zn, ↓ck_l, ck_zn, ck_l, z_ne_o, o_ne_z, zn_addl, zn_le, ix_zn, l_le_zn, zn_lt_l, l_lt_zn, zn_lt, Nat.zero_le, Nat.le_refl, Nat.not_lt_zero, Int32.reduceLE, Int32.reduceLT, eq_self, b01_0, b10_0, ix_l, vsi_i, vsi_l, vsi_r, vsi_k, vsi_n, vsi_w, vsl_i, vsl_l, vsl_r, vsl_k, vsl_n, vsl_w, vsr_i, vsr_l, vsr_r, vsr_k, vsr_n, vsr_w, and_self, and_true, true_and, and_false, false_and, or_self, or_true, true_or, or_false, false_or, not_true_eq_false, not_false_eq_true, ne_eq, eq_self, reduceCtorEq, Nat.reduceEqDiff, Nat.reduceAdd, Nat.reduceMul, Nat.reduceSub, Nat.reduceLT, Nat.reduceLeDiff, Nat.reduceDiv, Nat.add_zero, Nat.zero_add, Nat.not_lt_zero, Nat.zero_le, Nat.le_refl, Nat.lt_irrefl, h.ne, g, h.who, c1, i13, ↓bde (xs_has _ _ _), xs_has, c2, h.wo]
      · simp (disch := omega) only [x_traveller_L93, ↓lt_u, ↓jn_u, ↓bd_s, bd_s, ↓rf_s, rf_s, ↓nl_s, ↓nl_n, nl_s, nl_n, ↓reduceIte, ↓ckb24, ↓ckb256, ckb_T, ckb01, ↓ck_zn, ↓ck_l, ck_zn, ck_l, z_ne_o, o_ne_z, zn_addl, zn_le, ix_zn, l_le_zn, zn_lt_l, l_lt_zn, zn_lt, Nat.zero_le, Nat.le_refl, Nat.not_lt_zero, Int32.reduceLE, Int32.reduceLT, eq_self, b01_0, b10_0, ix_l, vsi_i, vsi_l, vsi_r, vsi_k, vsi_n, vsi_w, vsl_i, vsl_l, vsl_r, vsl_k, vsl_n, vsl_w, vsr_i, vsr_l, vsr_r, vsr_k, vsr_n, vsr_w, and_self, and_true, true_and, and_false, false_and, or_self, or_true, true_or, or_false, false_or, not_true_eq_false, not_false_eq_true, ne_eq, eq_self, reduceCtorEq, Nat.reduceEqDiff, Nat.reduceAdd, Nat.reduceMul, Nat.reduceSub, Nat.reduceLT, Nat.reduceLeDiff, Nat.reduceDiv, Nat.add_zero, Nat.zero_add, Nat.not_lt_zero, Nat.zero_le, Nat.le_refl, Nat.lt_irrefl, h.ne, g, h.who, c1, i13, ↓bde (xs_has _ _ _), xs_has, c2, h.wo]
    · simp (disch := omega) only [x_traveller_L93, ↓lt_u, ↓jn_u, ↓bd_s, bd_s, ↓rf_s, rf_s, ↓nl_s, ↓nl_n, nl_s, nl_n, ↓reduceIte, ↓ckb24, ↓ckb256, ckb_T, ckb01, ↓ck_zn, ↓ck_l, ck_zn, ck_l, z_ne_o, o_ne_z, zn_addl, zn_le, ix_zn, l_le_zn, zn_lt_l, l_lt_zn, zn_lt, Nat.zero_le, Nat.le_refl, Nat.not_lt_zero, Int32.reduceLE, Int32.reduceLT, eq_self, b01_0, b10_0, ix_l, vsi_i, vsi_l, vsi_r, vsi_k, vsi_n, vsi_w, vsl_i, vsl_l, vsl_r, vsl_k, vsl_n, vsl_w, vsr_i, vsr_l, vsr_r, vsr_k, vsr_n, vsr_w, and_self, and_true, true_and, and_false, false_and, or_self, or_true, true_or, or_false, false_or, not_true_eq_false, not_false_eq_true, ne_eq, eq_self, reduceCtorEq, Nat.reduceEqDiff, Nat.reduceAdd, Nat.reduceMul, Nat.reduceSub, Nat.reduceLT, Nat.reduceLeDiff, Nat.reduceDiv, Nat.add_zero, Nat.zero_add, Nat.not_lt_zero, Nat.zero_le, Nat.le_refl, Nat.lt_irrefl, h.ne, g, h.who, c1]
  · show x_traveller_L93 (zn t) (n + 1) _ (zn C.ne) M = _
    rw [x_traveller_L93, h.ne, if_pos (Int32.le_refl _)]
    rfl
theorem ms_wsm (h : CY 83 C M) (ha : RvY 73 A M) (t : Nat) : m_traveller_L59 (zn t) FU 0 0 M = some (wsm C (A 13) (zn t), M) := by
  have b1 := h.ok.ne8
  have i13 := hy13 ha
  refine nlp (fun n k s => m_traveller_L59 (zn t) n s (zn k) M) C.ne FU (FU_lt (by omega)) (fun e s => s + (if zn (C.who e) = (zn t) then (if (((A 13) >>> (zn e &&& 31)) &&& 1) = 1 then zn (C.wo e) else 0) else 0)) 0 _ (fun n k hk => ?_) (fun n => ?_)
  · have g : ¬ C.ne ≤ k := by omega
    by_cases c1 : zn (C.who k) = zn t
    · by_cases c2 : (((A 13) >>> (zn k &&& 31)) &&& 1) = 1
      · simp (disch := omega) only [m_traveller_L59, ↓lt_u, ↓jn_u, ↓bd_s, bd_s, ↓rf_s, rf_s, ↓nl_s, ↓nl_n, nl_s, nl_n, ↓reduceIte, ↓ckb24, ↓ckb256, ckb_T, ckb01, ↓ck_zn, ↓ck_l, ck_zn, ck_l, z_ne_o, o_ne_z, zn_addl, zn_le, ix_zn, l_le_zn, zn_lt_l, l_lt_zn, zn_lt, Nat.zero_le, Nat.le_refl, Nat.not_lt_zero, Int32.reduceLE, Int32.reduceLT, eq_self, b01_0, b10_0, ix_l, vsi_i, vsi_l, vsi_r, vsi_k, vsi_n, vsi_w, vsl_i, vsl_l, vsl_r, vsl_k, vsl_n, vsl_w, vsr_i, vsr_l, vsr_r, vsr_k, vsr_n, vsr_w, and_self, and_true, true_and, and_false, false_and, or_self, or_true, true_or, or_false, false_or, not_true_eq_false, not_false_eq_true, ne_eq, eq_self, reduceCtorEq, Nat.reduceEqDiff, Nat.reduceAdd, Nat.reduceMul, Nat.reduceSub, Nat.reduceLT, Nat.reduceLeDiff, Nat.reduceDiv, Nat.add_zero, Nat.zero_add, Nat.not_lt_zero, Nat.zero_le, Nat.le_refl, Nat.lt_irrefl, h.ne, g, ↓bde (ms_field0 h hk), c1, ck13, ix13, i13, ↓bde (ms_has _ _ _), ms_has, c2, ↓bde (ms_field3 h hk)]
      · simp (disch := omega) only [m_traveller_L59, ↓lt_u, ↓jn_u, ↓bd_s, bd_s, ↓rf_s, rf_s, ↓nl_s, ↓nl_n, nl_s, nl_n, ↓reduceIte, ↓ckb24, ↓ckb256, ckb_T, ckb01, ↓ck_zn, ↓ck_l, ck_zn, ck_l, z_ne_o, o_ne_z, zn_addl, zn_le, ix_zn, l_le_zn, zn_lt_l, l_lt_zn, zn_lt, Nat.zero_le, Nat.le_refl, Nat.not_lt_zero, Int32.reduceLE, Int32.reduceLT, eq_self, b01_0, b10_0, ix_l, vsi_i, vsi_l, vsi_r, vsi_k, vsi_n, vsi_w, vsl_i, vsl_l, vsl_r, vsl_k, vsl_n, vsl_w, vsr_i, vsr_l, vsr_r, vsr_k, vsr_n, vsr_w, and_self, and_true, true_and, and_false, false_and, or_self, or_true, true_or, or_false, false_or, not_true_eq_false, not_false_eq_true, ne_eq, eq_self, reduceCtorEq, Nat.reduceEqDiff, Nat.reduceAdd, Nat.reduceMul, Nat.reduceSub, Nat.reduceLT, Nat.reduceLeDiff, Nat.reduceDiv, Nat.add_zero, Nat.zero_add, Nat.not_lt_zero, Nat.zero_le, Nat.le_refl, Nat.lt_irrefl, h.ne, g, ↓bde (ms_field0 h hk), c1, ck13, ix13, i13, ↓bde (ms_has _ _ _), ms_has, c2, ↓bde (ms_field3 h hk)]
    · simp (disch := omega) only [m_traveller_L59, ↓lt_u, ↓jn_u, ↓bd_s, bd_s, ↓rf_s, rf_s, ↓nl_s, ↓nl_n, nl_s, nl_n, ↓reduceIte, ↓ckb24, ↓ckb256, ckb_T, ckb01, ↓ck_zn, ↓ck_l, ck_zn, ck_l, z_ne_o, o_ne_z, zn_addl, zn_le, ix_zn, l_le_zn, zn_lt_l, l_lt_zn, zn_lt, Nat.zero_le, Nat.le_refl, Nat.not_lt_zero, Int32.reduceLE, Int32.reduceLT, eq_self, b01_0, b10_0, ix_l, vsi_i, vsi_l, vsi_r, vsi_k, vsi_n, vsi_w, vsl_i, vsl_l, vsl_r, vsl_k, vsl_n, vsl_w, vsr_i, vsr_l, vsr_r, vsr_k, vsr_n, vsr_w, and_self, and_true, true_and, and_false, false_and, or_self, or_true, true_or, or_false, false_or, not_true_eq_false, not_false_eq_true, ne_eq, eq_self, reduceCtorEq, Nat.reduceEqDiff, Nat.reduceAdd, Nat.reduceMul, Nat.reduceSub, Nat.reduceLT, Nat.reduceLeDiff, Nat.reduceDiv, Nat.add_zero, Nat.zero_add, Nat.not_lt_zero, Nat.zero_le, Nat.le_refl, Nat.lt_irrefl, h.ne, g, ↓bde (ms_field0 h hk), c1]
  · show m_traveller_L59 (zn t) (n + 1) _ (zn C.ne) M = _
    rw [m_traveller_L59, h.ne, if_pos (Int32.le_refl _)]
    rfl
theorem call_traveller (p q : Int32) : Call5 (lw_traveller p q) (m_traveller p q) := by
  refine Call5.of (fun C A l hC hA hl => ?_)
  have b1 := hC.nt4
  rcases dm_or (show C.nt < 2147483648 by omega) p with ⟨t, ht, rfl⟩ | hn
  · rcases dl_or (n := 4) (by omega) q with ⟨x, hx, rfl⟩ | hn2
    · refine Or.inl ⟨trv C A t x, fun M h ha _ => ?_, fun M h ha _ => ?_⟩
      · obtain ⟨v1, v2, v3⟩ := ha.1 t (by omega)
        have v1' : M.i 22 t = A t := v1
        have v2' : M.i 23 t = A (4 + t) := v2
        have v3' : M.i 24 t = A (8 + t) := v3
        unfold x_traveller
        rw [bde (xt_trav h ht), if_neg (by decide)]
        unfold trv
        rcases (show x = 0 ∨ x = 1 ∨ x = 2 ∨ x = 3 ∨ x = 4 by omega) with e1 | e1 | e1 | e1 | e1
        · subst e1
          simp (disch := omega) only [↓lt_u, ↓jn_u, ↓bd_s, bd_s, ↓rf_s, rf_s, ↓nl_s, ↓nl_n, nl_s, nl_n, ↓reduceIte, ↓ckb24, ↓ckb256, ckb_T, ckb01, ↓ck_zn, ↓ck_l, ck_zn, ck_l, vsi_i, vsi_l, vsi_r, vsi_k, vsi_n, vsi_w, vsl_i, vsl_l, vsl_r, vsl_k, vsl_n, vsl_w, vsr_i, vsr_l, vsr_r, vsr_k, vsr_n, vsr_w, and_self, and_true, true_and, and_false, false_and, or_self, or_true, true_or, or_false, false_or, not_true_eq_false, not_false_eq_true, ne_eq, eq_self, reduceCtorEq, Nat.reduceEqDiff, Nat.reduceAdd, Nat.reduceMul, Nat.reduceSub, Nat.reduceLT, Nat.reduceLeDiff, Nat.reduceDiv, Nat.add_zero, Nat.zero_add, Nat.not_lt_zero, Nat.zero_le, Nat.le_refl, Nat.lt_irrefl, l_eq_l, m_eq_l, l_eq_m, Int32.reduceLT, Int32.reduceLE, Int32.reduceAdd, Int32.reduceSub, Int32.reduceMul, b01_0, b01_1, b10_0, z_ne_o, o_ne_z, zn_add, zn_addl, zn_ladd, zn_mull, zn_subl, ix_zn, ix_l, ck_zn, ck_l, zn_le, zn_le_l, l_le_zn, zn_lt, zn_lt_l, l_lt_zn, zn_eq, zn_eq_l, l_eq_zn, zn_eq_m, m_eq_zn, m_le_zn, zn_lt_m, imin_zn, imax_zn, zn_le_m, v1']
        · subst e1
          simp (disch := omega) only [↓lt_u, ↓jn_u, ↓bd_s, bd_s, ↓rf_s, rf_s, ↓nl_s, ↓nl_n, nl_s, nl_n, ↓reduceIte, ↓ckb24, ↓ckb256, ckb_T, ckb01, ↓ck_zn, ↓ck_l, ck_zn, ck_l, vsi_i, vsi_l, vsi_r, vsi_k, vsi_n, vsi_w, vsl_i, vsl_l, vsl_r, vsl_k, vsl_n, vsl_w, vsr_i, vsr_l, vsr_r, vsr_k, vsr_n, vsr_w, and_self, and_true, true_and, and_false, false_and, or_self, or_true, true_or, or_false, false_or, not_true_eq_false, not_false_eq_true, ne_eq, eq_self, reduceCtorEq, Nat.reduceEqDiff, Nat.reduceAdd, Nat.reduceMul, Nat.reduceSub, Nat.reduceLT, Nat.reduceLeDiff, Nat.reduceDiv, Nat.add_zero, Nat.zero_add, Nat.not_lt_zero, Nat.zero_le, Nat.le_refl, Nat.lt_irrefl, l_eq_l, m_eq_l, l_eq_m, Int32.reduceLT, Int32.reduceLE, Int32.reduceAdd, Int32.reduceSub, Int32.reduceMul, b01_0, b01_1, b10_0, z_ne_o, o_ne_z, zn_add, zn_addl, zn_ladd, zn_mull, zn_subl, ix_zn, ix_l, ck_zn, ck_l, zn_le, zn_le_l, l_le_zn, zn_lt, zn_lt_l, l_lt_zn, zn_eq, zn_eq_l, l_eq_zn, zn_eq_m, m_eq_zn, m_le_zn, zn_lt_m, imin_zn, imax_zn, zn_le_m, v2']
        · subst e1
          simp (disch := omega) only [↓lt_u, ↓jn_u, ↓bd_s, bd_s, ↓rf_s, rf_s, ↓nl_s, ↓nl_n, nl_s, nl_n, ↓reduceIte, ↓ckb24, ↓ckb256, ckb_T, ckb01, ↓ck_zn, ↓ck_l, ck_zn, ck_l, vsi_i, vsi_l, vsi_r, vsi_k, vsi_n, vsi_w, vsl_i, vsl_l, vsl_r, vsl_k, vsl_n, vsl_w, vsr_i, vsr_l, vsr_r, vsr_k, vsr_n, vsr_w, and_self, and_true, true_and, and_false, false_and, or_self, or_true, true_or, or_false, false_or, not_true_eq_false, not_false_eq_true, ne_eq, eq_self, reduceCtorEq, Nat.reduceEqDiff, Nat.reduceAdd, Nat.reduceMul, Nat.reduceSub, Nat.reduceLT, Nat.reduceLeDiff, Nat.reduceDiv, Nat.add_zero, Nat.zero_add, Nat.not_lt_zero, Nat.zero_le, Nat.le_refl, Nat.lt_irrefl, l_eq_l, m_eq_l, l_eq_m, Int32.reduceLT, Int32.reduceLE, Int32.reduceAdd, Int32.reduceSub, Int32.reduceMul, b01_0, b01_1, b10_0, z_ne_o, o_ne_z, zn_add, zn_addl, zn_ladd, zn_mull, zn_subl, ix_zn, ix_l, ck_zn, ck_l, zn_le, zn_le_l, l_le_zn, zn_lt, zn_lt_l, l_lt_zn, zn_eq, zn_eq_l, l_eq_zn, zn_eq_m, m_eq_zn, m_le_zn, zn_lt_m, imin_zn, imax_zn, zn_le_m, v3']
        · subst e1
          have := xs_errandsOf h (zn t)
          rw [hx13 ha] at this
          simp (disch := omega) only [↓lt_u, ↓jn_u, ↓bd_s, bd_s, ↓rf_s, rf_s, ↓nl_s, ↓nl_n, nl_s, nl_n, ↓reduceIte, ↓ckb24, ↓ckb256, ckb_T, ckb01, ↓ck_zn, ↓ck_l, ck_zn, ck_l, vsi_i, vsi_l, vsi_r, vsi_k, vsi_n, vsi_w, vsl_i, vsl_l, vsl_r, vsl_k, vsl_n, vsl_w, vsr_i, vsr_l, vsr_r, vsr_k, vsr_n, vsr_w, and_self, and_true, true_and, and_false, false_and, or_self, or_true, true_or, or_false, false_or, not_true_eq_false, not_false_eq_true, ne_eq, eq_self, reduceCtorEq, Nat.reduceEqDiff, Nat.reduceAdd, Nat.reduceMul, Nat.reduceSub, Nat.reduceLT, Nat.reduceLeDiff, Nat.reduceDiv, Nat.add_zero, Nat.zero_add, Nat.not_lt_zero, Nat.zero_le, Nat.le_refl, Nat.lt_irrefl, l_eq_l, m_eq_l, l_eq_m, Int32.reduceLT, Int32.reduceLE, Int32.reduceAdd, Int32.reduceSub, Int32.reduceMul, b01_0, b01_1, b10_0, z_ne_o, o_ne_z, zn_add, zn_addl, zn_ladd, zn_mull, zn_subl, ix_zn, ix_l, ck_zn, ck_l, zn_le, zn_le_l, l_le_zn, zn_lt, zn_lt_l, l_lt_zn, zn_eq, zn_eq_l, l_eq_zn, zn_eq_m, m_eq_zn, m_le_zn, zn_lt_m, imin_zn, imax_zn, zn_le_m, ↓bde this]
        · subst e1
          simp (disch := omega) only [↓lt_u, ↓jn_u, ↓bd_s, bd_s, ↓rf_s, rf_s, ↓nl_s, ↓nl_n, nl_s, nl_n, ↓reduceIte, ↓ckb24, ↓ckb256, ckb_T, ckb01, ↓ck_zn, ↓ck_l, ck_zn, ck_l, vsi_i, vsi_l, vsi_r, vsi_k, vsi_n, vsi_w, vsl_i, vsl_l, vsl_r, vsl_k, vsl_n, vsl_w, vsr_i, vsr_l, vsr_r, vsr_k, vsr_n, vsr_w, and_self, and_true, true_and, and_false, false_and, or_self, or_true, true_or, or_false, false_or, not_true_eq_false, not_false_eq_true, ne_eq, eq_self, reduceCtorEq, Nat.reduceEqDiff, Nat.reduceAdd, Nat.reduceMul, Nat.reduceSub, Nat.reduceLT, Nat.reduceLeDiff, Nat.reduceDiv, Nat.add_zero, Nat.zero_add, Nat.not_lt_zero, Nat.zero_le, Nat.le_refl, Nat.lt_irrefl, l_eq_l, m_eq_l, l_eq_m, Int32.reduceLT, Int32.reduceLE, Int32.reduceAdd, Int32.reduceSub, Int32.reduceMul, b01_0, b01_1, b10_0, z_ne_o, o_ne_z, zn_add, zn_addl, zn_ladd, zn_mull, zn_subl, ix_zn, ix_l, ck_zn, ck_l, zn_le, zn_le_l, l_le_zn, zn_lt, zn_lt_l, l_lt_zn, zn_eq, zn_eq_l, l_eq_zn, zn_eq_m, m_eq_zn, m_le_zn, zn_lt_m, imin_zn, imax_zn, zn_le_m, xs_wsm h ha t]
      · have h' := h.fy (f13 (M := M))
        have ha' := ha.fy (f13 (M := M))
        unfold m_traveller
        rw [lt_u, bde (mt_one h' ht), jn_u, if_neg (by decide), bde (mt_4 hx _), if_neg (by decide)]
        generalize M.si 72 13 0 = N at h' ha'
        have v1 := ha' t (by omega)
        have v2 := ha' (4 + t) (by omega)
        have v3 := ha' (8 + t) (by omega)
        unfold trv
        rcases (show x = 0 ∨ x = 1 ∨ x = 2 ∨ x = 3 ∨ x = 4 by omega) with e1 | e1 | e1 | e1 | e1
        · subst e1
          simp (disch := omega) only [↓lt_u, ↓jn_u, ↓bd_s, bd_s, ↓rf_s, rf_s, ↓nl_s, ↓nl_n, nl_s, nl_n, ↓reduceIte, ↓ckb24, ↓ckb256, ckb_T, ckb01, ↓ck_zn, ↓ck_l, ck_zn, ck_l, vsi_i, vsi_l, vsi_r, vsi_k, vsi_n, vsi_w, vsl_i, vsl_l, vsl_r, vsl_k, vsl_n, vsl_w, vsr_i, vsr_l, vsr_r, vsr_k, vsr_n, vsr_w, and_self, and_true, true_and, and_false, false_and, or_self, or_true, true_or, or_false, false_or, not_true_eq_false, not_false_eq_true, ne_eq, eq_self, reduceCtorEq, Nat.reduceEqDiff, Nat.reduceAdd, Nat.reduceMul, Nat.reduceSub, Nat.reduceLT, Nat.reduceLeDiff, Nat.reduceDiv, Nat.add_zero, Nat.zero_add, Nat.not_lt_zero, Nat.zero_le, Nat.le_refl, Nat.lt_irrefl, l_eq_l, m_eq_l, l_eq_m, Int32.reduceLT, Int32.reduceLE, Int32.reduceAdd, Int32.reduceSub, Int32.reduceMul, b01_0, b01_1, b10_0, z_ne_o, o_ne_z, zn_add, zn_addl, zn_ladd, zn_mull, zn_subl, ix_zn, ix_l, ck_zn, ck_l, zn_le, zn_le_l, l_le_zn, zn_lt, zn_lt_l, l_lt_zn, zn_eq, zn_eq_l, l_eq_zn, zn_eq_m, m_eq_zn, m_le_zn, zn_lt_m, imin_zn, imax_zn, zn_le_m, v1]
        · subst e1
          simp (disch := omega) only [↓lt_u, ↓jn_u, ↓bd_s, bd_s, ↓rf_s, rf_s, ↓nl_s, ↓nl_n, nl_s, nl_n, ↓reduceIte, ↓ckb24, ↓ckb256, ckb_T, ckb01, ↓ck_zn, ↓ck_l, ck_zn, ck_l, vsi_i, vsi_l, vsi_r, vsi_k, vsi_n, vsi_w, vsl_i, vsl_l, vsl_r, vsl_k, vsl_n, vsl_w, vsr_i, vsr_l, vsr_r, vsr_k, vsr_n, vsr_w, and_self, and_true, true_and, and_false, false_and, or_self, or_true, true_or, or_false, false_or, not_true_eq_false, not_false_eq_true, ne_eq, eq_self, reduceCtorEq, Nat.reduceEqDiff, Nat.reduceAdd, Nat.reduceMul, Nat.reduceSub, Nat.reduceLT, Nat.reduceLeDiff, Nat.reduceDiv, Nat.add_zero, Nat.zero_add, Nat.not_lt_zero, Nat.zero_le, Nat.le_refl, Nat.lt_irrefl, l_eq_l, m_eq_l, l_eq_m, Int32.reduceLT, Int32.reduceLE, Int32.reduceAdd, Int32.reduceSub, Int32.reduceMul, b01_0, b01_1, b10_0, z_ne_o, o_ne_z, zn_add, zn_addl, zn_ladd, zn_mull, zn_subl, ix_zn, ix_l, ck_zn, ck_l, zn_le, zn_le_l, l_le_zn, zn_lt, zn_lt_l, l_lt_zn, zn_eq, zn_eq_l, l_eq_zn, zn_eq_m, m_eq_zn, m_le_zn, zn_lt_m, imin_zn, imax_zn, zn_le_m, v2]
        · subst e1
          simp (disch := omega) only [↓lt_u, ↓jn_u, ↓bd_s, bd_s, ↓rf_s, rf_s, ↓nl_s, ↓nl_n, nl_s, nl_n, ↓reduceIte, ↓ckb24, ↓ckb256, ckb_T, ckb01, ↓ck_zn, ↓ck_l, ck_zn, ck_l, vsi_i, vsi_l, vsi_r, vsi_k, vsi_n, vsi_w, vsl_i, vsl_l, vsl_r, vsl_k, vsl_n, vsl_w, vsr_i, vsr_l, vsr_r, vsr_k, vsr_n, vsr_w, and_self, and_true, true_and, and_false, false_and, or_self, or_true, true_or, or_false, false_or, not_true_eq_false, not_false_eq_true, ne_eq, eq_self, reduceCtorEq, Nat.reduceEqDiff, Nat.reduceAdd, Nat.reduceMul, Nat.reduceSub, Nat.reduceLT, Nat.reduceLeDiff, Nat.reduceDiv, Nat.add_zero, Nat.zero_add, Nat.not_lt_zero, Nat.zero_le, Nat.le_refl, Nat.lt_irrefl, l_eq_l, m_eq_l, l_eq_m, Int32.reduceLT, Int32.reduceLE, Int32.reduceAdd, Int32.reduceSub, Int32.reduceMul, b01_0, b01_1, b10_0, z_ne_o, o_ne_z, zn_add, zn_addl, zn_ladd, zn_mull, zn_subl, ix_zn, ix_l, ck_zn, ck_l, zn_le, zn_le_l, l_le_zn, zn_lt, zn_lt_l, l_lt_zn, zn_eq, zn_eq_l, l_eq_zn, zn_eq_m, m_eq_zn, m_le_zn, zn_lt_m, imin_zn, imax_zn, zn_le_m, v3]
        · subst e1
          have := ms_openOf h' (kd73 h'.sh) (zn t)
          rw [hy13 ha'] at this
          simp (disch := omega) only [↓lt_u, ↓jn_u, ↓bd_s, bd_s, ↓rf_s, rf_s, ↓nl_s, ↓nl_n, nl_s, nl_n, ↓reduceIte, ↓ckb24, ↓ckb256, ckb_T, ckb01, ↓ck_zn, ↓ck_l, ck_zn, ck_l, vsi_i, vsi_l, vsi_r, vsi_k, vsi_n, vsi_w, vsl_i, vsl_l, vsl_r, vsl_k, vsl_n, vsl_w, vsr_i, vsr_l, vsr_r, vsr_k, vsr_n, vsr_w, and_self, and_true, true_and, and_false, false_and, or_self, or_true, true_or, or_false, false_or, not_true_eq_false, not_false_eq_true, ne_eq, eq_self, reduceCtorEq, Nat.reduceEqDiff, Nat.reduceAdd, Nat.reduceMul, Nat.reduceSub, Nat.reduceLT, Nat.reduceLeDiff, Nat.reduceDiv, Nat.add_zero, Nat.zero_add, Nat.not_lt_zero, Nat.zero_le, Nat.le_refl, Nat.lt_irrefl, l_eq_l, m_eq_l, l_eq_m, Int32.reduceLT, Int32.reduceLE, Int32.reduceAdd, Int32.reduceSub, Int32.reduceMul, b01_0, b01_1, b10_0, z_ne_o, o_ne_z, zn_add, zn_addl, zn_ladd, zn_mull, zn_subl, ix_zn, ix_l, ck_zn, ck_l, zn_le, zn_le_l, l_le_zn, zn_lt, zn_lt_l, l_lt_zn, zn_eq, zn_eq_l, l_eq_zn, zn_eq_m, m_eq_zn, m_le_zn, zn_lt_m, imin_zn, imax_zn, zn_le_m, ↓bde this]
        · subst e1
          simp (disch := omega) only [↓lt_u, ↓jn_u, ↓bd_s, bd_s, ↓rf_s, rf_s, ↓nl_s, ↓nl_n, nl_s, nl_n, ↓reduceIte, ↓ckb24, ↓ckb256, ckb_T, ckb01, ↓ck_zn, ↓ck_l, ck_zn, ck_l, vsi_i, vsi_l, vsi_r, vsi_k, vsi_n, vsi_w, vsl_i, vsl_l, vsl_r, vsl_k, vsl_n, vsl_w, vsr_i, vsr_l, vsr_r, vsr_k, vsr_n, vsr_w, and_self, and_true, true_and, and_false, false_and, or_self, or_true, true_or, or_false, false_or, not_true_eq_false, not_false_eq_true, ne_eq, eq_self, reduceCtorEq, Nat.reduceEqDiff, Nat.reduceAdd, Nat.reduceMul, Nat.reduceSub, Nat.reduceLT, Nat.reduceLeDiff, Nat.reduceDiv, Nat.add_zero, Nat.zero_add, Nat.not_lt_zero, Nat.zero_le, Nat.le_refl, Nat.lt_irrefl, l_eq_l, m_eq_l, l_eq_m, Int32.reduceLT, Int32.reduceLE, Int32.reduceAdd, Int32.reduceSub, Int32.reduceMul, b01_0, b01_1, b10_0, z_ne_o, o_ne_z, zn_add, zn_addl, zn_ladd, zn_mull, zn_subl, ix_zn, ix_l, ck_zn, ck_l, zn_le, zn_le_l, l_le_zn, zn_lt, zn_lt_l, l_lt_zn, zn_eq, zn_eq_l, l_eq_zn, zn_eq_m, m_eq_zn, m_le_zn, zn_lt_m, imin_zn, imax_zn, zn_le_m, ms_wsm h' ha' t]
    · have z : ∀ n : Nat, n ≤ 4 → ¬ q = zn n := by
        intro n hn3 e1
        apply hn2
        rw [e1, zn_le (by omega) (by omega)]
        exact ⟨zn_nonneg (by omega), hn3⟩
      refine Or.inr ⟨fun M h _ _ => ?_, fun M h _ _ => ?_⟩
      · unfold x_traveller
        rw [bde (xt_trav h ht), if_neg (by decide), if_neg (show ¬ q = 0 from z 0 (by omega)), if_neg (show ¬ q = 1 from z 1 (by omega)), if_neg (show ¬ q = 2 from z 2 (by omega)), if_neg (show ¬ q = 3 from z 3 (by omega)), if_neg (show ¬ q = 4 from z 4 (by omega))]
      · unfold m_traveller
        rw [lt_u, bde (mt_one (h.fy f13) ht), jn_u, if_neg (by decide), bde (mn_4 hn2 _), if_pos rfl]
        rfl
  · refine Or.inr ⟨fun M h _ _ => ?_, fun M h _ _ => ?_⟩
    · unfold x_traveller
      rw [bde (xn_trav h hn), if_pos rfl]
    · unfold m_traveller
      rw [lt_u, bde (mn_one (h.fy f13) hn), jn_u, if_pos rfl]
      rfl
end
