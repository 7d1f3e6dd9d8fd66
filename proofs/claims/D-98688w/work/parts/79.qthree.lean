set_option maxRecDepth 100000
/-! TAKES, GREED -/
section
variable {C : SV} {A : Nat → Int32} {M M1 : PM} {l : List Int64}
def mvf (C : SV) (hr m st : Int32) (x n : Nat) : Int32 := itr (fun w v => if mns C w m then imin v (tol C w st hr + zn x * nvo C w) else v) n 100000000
theorem mvf_s (C : SV) (hr m st : Int32) (x n : Nat) : mvf C hr m st x (n + 1) = if mns C n m then imin (mvf C hr m st x n) (tol C n st hr + zn x * nvo C n) else mvf C hr m st x n := rfl
theorem mvf_or (h : OKC C) (hr m st : Int32) {x : Nat} (hx : x ≤ 99) : ∀ k, k ≤ C.nw → (mvf C hr m st x k = 100000000 ∧ (chp C hr m st (zn x) k).2 = 1000000000) ∨ ∃ n, n ≤ 1188 ∧ mvf C hr m st x k = zn n ∧ (chp C hr m st (zn x) k).2 = zn n := by
  intro k
  induction k with
  | zero => intro _; exact Or.inl ⟨rfl, rfl⟩
  | succ k ih =>
    intro hk
    rw [chp_s, mvf_s]
    show (_ ∧ imin (chp C hr m st (zn x) k).2 (chf C hr m st (zn x) k) = _) ∨ ∃ n, _ ∧ _ ∧ imin (chp C hr m st (zn x) k).2 (chf C hr m st (zn x) k) = _
    by_cases hm : mns C k m
    · obtain ⟨n, n1, n2⟩ := cost_n h (show k < C.nw by omega) hr st hx
      have ec : chf C hr m st (zn x) k = zn n := by
        rw [← n2]
        exact if_pos hm
      rw [if_pos hm, ec, n2]
      right
      rcases ih (by omega) with ⟨i1, i2⟩ | ⟨n', i1, i2, i3⟩
      · refine ⟨n, n1, ?_, ?_⟩
        · rw [i1]
          show imin (zn 100000000) (zn n) = _
          rw [imin_zn (by omega) (by omega), Nat.min_eq_right (by omega)]
        · rw [i2]
          show imin (zn 1000000000) (zn n) = _
          rw [imin_zn (by omega) (by omega), Nat.min_eq_right (by omega)]
      · refine ⟨min n' n, by omega, ?_, ?_⟩
        · rw [i2, imin_zn (by omega) (by omega)]
        · rw [i3, imin_zn (by omega) (by omega)]
    · have ec : chf C hr m st (zn x) k = 1000000000 := if_neg hm
      rw [if_neg hm, ec]
      rcases ih (by omega) with ⟨i1, i2⟩ | ⟨n', i1, i2, i3⟩
      · exact Or.inl ⟨i1, by rw [i2]; decide⟩
      · refine Or.inr ⟨n', i1, i2, ?_⟩
        rw [i3]
        show imin (zn n') (zn 1000000000) = _
        rw [imin_zn (by omega) (by omega), Nat.min_eq_left (by omega)]
/-- the least over the words of a meaning, and on -/
theorem ms_least (h : CY 83 C M) (ha : RvY 73 A M) {s x e : Nat} (hx : x ≤ 99) (he : e < C.ne) (c3 : Int32) (K : Int32 → PM → Option (Int32 × PM)) : ∃ M1, Fq ca M M1 ∧ m_takesBy_L56 (zn s) (zn x) c3 (zn e) K FU 100000000 0 M = K (mvf C (A 12) (zn (C.em e)) (zn s) x C.nw) M1 := by
  have b1 := h.ok.nw10
  have b2 := h.ok.ne8
  have := wlp (fun n k (_ : Unit) M2 => m_takesBy_L56 (zn s) (zn x) c3 (zn e) K n (mvf C (A 12) (zn (C.em e)) (zn s) x k) (zn k) M2) C.nw FU (FU_lt (by omega)) (fun _ s => s) () (fun k M2 => Fq ca M M2) (fun o => ∃ M1, Fq ca M M1 ∧ o = K (mvf C (A 12) (zn (C.em e)) (zn s) x C.nw) M1) (fun n k M2 hk f => ?_) (fun n M2 f => ?_) M Fq.rf
  · exact this
  · have h2 := h.fa f
    have g : ¬ C.nw ≤ k := by omega
    show ∃ M', _ ∧ m_takesBy_L56 (zn s) (zn x) c3 (zn e) K (n + 1) (mvf C (A 12) (zn (C.em e)) (zn s) x k) (zn k) M2 = m_takesBy_L56 (zn s) (zn x) c3 (zn e) K n (mvf C (A 12) (zn (C.em e)) (zn s) x (k + 1)) (zn (k + 1)) M'
    by_cases c1 : mns C k (zn (C.em e))
    · obtain ⟨M3, e3, f3⟩ := ms_tollNow h2 hk (zn s)
      rw [hy12 (ha.fa f)] at e3
      have e4 := ms_vowelsIn (h2.fa f3) hk
      have es : mvf C (A 12) (zn (C.em e)) (zn s) x (k + 1) = imin (mvf C (A 12) (zn (C.em e)) (zn s) x k) (tol C k (zn s) (A 12) + zn x * nvo C k) := by rw [mvf_s, if_pos c1]
      refine ⟨M3, f.tr f3, ?_⟩
      simp (disch := omega) only [es, m_takesBy_L56, ↓lt_u, ↓jn_u, ↓bd_s, bd_s, ↓rf_s, rf_s, ↓nl_s, ↓nl_n, nl_s, nl_n, ↓reduceIte, ↓ckb24, ↓ckb256, ckb_T, ckb01, ↓ck_zn, ↓ck_l, ck_zn, ck_l, z_ne_o, o_ne_z, zn_addl, zn_le, ix_zn, l_le_zn, zn_lt_l, l_lt_zn, zn_lt, Nat.zero_le, Nat.le_refl, Nat.not_lt_zero, Int32.reduceLE, Int32.reduceLT, eq_self, b01_0, b10_0, ix_l, vsi_i, vsi_l, vsi_r, vsi_k, vsi_n, vsi_w, vsl_i, vsl_l, vsl_r, vsl_k, vsl_n, vsl_w, vsr_i, vsr_l, vsr_r, vsr_k, vsr_n, vsr_w, and_self, and_true, true_and, and_false, false_and, or_self, or_true, true_or, or_false, false_or, not_true_eq_false, not_false_eq_true, ne_eq, eq_self, reduceCtorEq, Nat.reduceEqDiff, Nat.reduceAdd, Nat.reduceMul, Nat.reduceSub, Nat.reduceLT, Nat.reduceLeDiff, Nat.reduceDiv, Nat.add_zero, Nat.zero_add, Nat.not_lt_zero, Nat.zero_le, Nat.le_refl, Nat.lt_irrefl, h2.nw, g, ↓bde (ms_field1 h2 he), ↓bde (ms_means h2 hk _), c1, ↓bde e3, ↓bde e4]
    · have es : mvf C (A 12) (zn (C.em e)) (zn s) x (k + 1) = mvf C (A 12) (zn (C.em e)) (zn s) x k := by rw [mvf_s, if_neg c1]
      refine ⟨M2, f, ?_⟩
      simp (disch := omega) only [es, m_takesBy_L56, ↓lt_u, ↓jn_u, ↓bd_s, bd_s, ↓rf_s, rf_s, ↓nl_s, ↓nl_n, nl_s, nl_n, ↓reduceIte, ↓ckb24, ↓ckb256, ckb_T, ckb01, ↓ck_zn, ↓ck_l, ck_zn, ck_l, z_ne_o, o_ne_z, zn_addl, zn_le, ix_zn, l_le_zn, zn_lt_l, l_lt_zn, zn_lt, Nat.zero_le, Nat.le_refl, Nat.not_lt_zero, Int32.reduceLE, Int32.reduceLT, eq_self, b01_0, b10_0, ix_l, vsi_i, vsi_l, vsi_r, vsi_k, vsi_n, vsi_w, vsl_i, vsl_l, vsl_r, vsl_k, vsl_n, vsl_w, vsr_i, vsr_l, vsr_r, vsr_k, vsr_n, vsr_w, and_self, and_true, true_and, and_false, false_and, or_self, or_true, true_or, or_false, false_or, not_true_eq_false, not_false_eq_true, ne_eq, eq_self, reduceCtorEq, Nat.reduceEqDiff, Nat.reduceAdd, Nat.reduceMul, Nat.reduceSub, Nat.reduceLT, Nat.reduceLeDiff, Nat.reduceDiv, Nat.add_zero, Nat.zero_add, Nat.not_lt_zero, Nat.zero_le, Nat.le_refl, Nat.lt_irrefl, h2.nw, g, ↓bde (ms_field1 h2 he), ↓bde (ms_means h2 hk _), c1]
  · have h2 := h.fa f
    refine ⟨M2, f, ?_⟩
    show m_takesBy_L56 (zn s) (zn x) c3 (zn e) K (n + 1) _ (zn C.nw) M2 = _
    rw [m_takesBy_L56, h2.nw, if_pos (Int32.le_refl _)]
theorem ms_takesBy (h : CY 83 C M) (ha : RvY 73 A M) {s x : Nat} (hx : x ≤ 99) : ∃ M', m_takesBy (zn s) (zn x) M = some ((cmi C (A 12) (A 13) (zn s) x C.ne).1, M') ∧ Fq cc M M' ∧ M'.i 72 43 = (cmi C (A 12) (A 13) (zn s) x C.ne).2 := by
  have b1 := h.ok.ne8
  unfold m_takesBy
  rw [lt_u]
  have := wlp (fun n k (_ : Unit) M2 => m_takesBy_L10 (zn s) (zn x) n (cmi C (A 12) (A 13) (zn s) x k).1 (zn k) M2) C.ne FU (FU_lt (by omega)) (fun _ s => s) () (fun k M2 => Fq cc M M2 ∧ M2.i 72 43 = (cmi C (A 12) (A 13) (zn s) x k).2) (fun o => ∃ M', o = some ((cmi C (A 12) (A 13) (zn s) x C.ne).1, M') ∧ Fq cc M M' ∧ M'.i 72 43 = (cmi C (A 12) (A 13) (zn s) x C.ne).2) (fun n k M2 hk hI => ?_) (fun n M2 hI => ?_) (M.si 72 43 0) ⟨Fq.rf.si (by unfold cc; omega), by rw [si_i, if_pos ⟨rfl, rfl⟩]; rfl⟩
  · exact this
  · obtain ⟨f, i43⟩ := hI
    have h2 := h.fy f.cy
    have a2 := ha.fy f.cy
    have g : ¬ C.ne ≤ k := by omega
    have i13 := hy13 a2
    have w99 := h.ok.wo99 k hk
    have hmu : ¬ (1000000000 : Int32) ≤ zn (C.wo k) := by rw [l_le_zn (by omega) (by omega)]; omega
    show ∃ M', _ ∧ m_takesBy_L10 (zn s) (zn x) (n + 1) (cmi C (A 12) (A 13) (zn s) x k).1 (zn k) M2 = m_takesBy_L10 (zn s) (zn x) n (cmi C (A 12) (A 13) (zn s) x (k + 1)).1 (zn (k + 1)) M'
    by_cases c2 : (((A 13) >>> (zn k &&& 31)) &&& 1) = 1
    · have es : cmi C (A 12) (A 13) (zn s) x (k + 1) = cmi C (A 12) (A 13) (zn s) x k := by
        rw [cmi_s, if_neg]
        unfold its
        rw [if_pos c2]
        split <;> exact hmu
      refine ⟨M2, ⟨f, by rw [es]; exact i43⟩, ?_⟩
      simp (disch := omega) only [es, m_takesBy_L10, ↓lt_u, ↓jn_u, ↓bd_s, bd_s, ↓rf_s, rf_s, ↓nl_s, ↓nl_n, nl_s, nl_n, ↓reduceIte, ↓ckb24, ↓ckb256, ckb_T, ckb01, ↓ck_zn, ↓ck_l, ck_zn, ck_l, z_ne_o, o_ne_z, zn_addl, zn_le, ix_zn, l_le_zn, zn_lt_l, l_lt_zn, zn_lt, Nat.zero_le, Nat.le_refl, Nat.not_lt_zero, Int32.reduceLE, Int32.reduceLT, eq_self, b01_0, b10_0, ix_l, vsi_i, vsi_l, vsi_r, vsi_k, vsi_n, vsi_w, vsl_i, vsl_l, vsl_r, vsl_k, vsl_n, vsl_w, vsr_i, vsr_l, vsr_r, vsr_k, vsr_n, vsr_w, and_self, and_true, true_and, and_false, false_and, or_self, or_true, true_or, or_false, false_or, not_true_eq_false, not_false_eq_true, ne_eq, eq_self, reduceCtorEq, Nat.reduceEqDiff, Nat.reduceAdd, Nat.reduceMul, Nat.reduceSub, Nat.reduceLT, Nat.reduceLeDiff, Nat.reduceDiv, Nat.add_zero, Nat.zero_add, Nat.not_lt_zero, Nat.zero_le, Nat.le_refl, Nat.lt_irrefl, h2.ne, g, ck13, ix13, i13, ↓bde (ms_has _ _ _), ms_has, c2]
    · by_cases c1 : zn (C.wh k) = zn s
      · have ei : its C (A 12) (A 13) (zn s) x k = (chp C (A 12) (zn (C.em k)) (zn s) (zn x) C.nw).2 := by unfold its; rw [if_pos c1, if_neg c2]
        obtain ⟨M3, f3, e3⟩ := ms_least h2 a2 (s := s) hx hk (cmi C (A 12) (A 13) (zn s) x k).1 (fun (v16 : Int32) (M12 : PM) => bd (m_field (zn k) 3 M12) fun v17 M13 => if v16 ≤ v17 then (lt ((cmi C (A 12) (A 13) (zn s) x k).1 + v16) fun v18 => lt (M13.si 72 43 ((M13.i 72 43) + 1)) fun M14 => lt (zn k + 1) fun v5 => m_takesBy_L10 (zn s) (zn x) n v18 v5 M14) else (lt (zn k + 1) fun v5 => m_takesBy_L10 (zn s) (zn x) n (cmi C (A 12) (A 13) (zn s) x k).1 v5 M13))
        have hun : m_takesBy_L10 (zn s) (zn x) (n + 1) (cmi C (A 12) (A 13) (zn s) x k).1 (zn k) M2 = m_takesBy_L56 (zn s) (zn x) (cmi C (A 12) (A 13) (zn s) x k).1 (zn k) (fun (v16 : Int32) (M12 : PM) => bd (m_field (zn k) 3 M12) fun v17 M13 => if v16 ≤ v17 then (lt ((cmi C (A 12) (A 13) (zn s) x k).1 + v16) fun v18 => lt (M13.si 72 43 ((M13.i 72 43) + 1)) fun M14 => lt (zn k + 1) fun v5 => m_takesBy_L10 (zn s) (zn x) n v18 v5 M14) else (lt (zn k + 1) fun v5 => m_takesBy_L10 (zn s) (zn x) n (cmi C (A 12) (A 13) (zn s) x k).1 v5 M13)) FU 100000000 0 M2 := by
          rw [m_takesBy_L10, h2.ne, if_neg (by rw [zn_le (by omega) (by omega)]; omega), ck13, ix13, i13, bde (ms_has _ _ _), if_neg c2, jn_u, if_pos rfl, bde (ms_field2 h2 hk), if_pos c1]
        rw [hun, e3]
        have h3 := h2.fa f3
        have i43' : M3.i 72 43 = (cmi C (A 12) (A 13) (zn s) x k).2 := by rw [f3.i _ _ (by unfold ca; omega)]; exact i43
        rcases mvf_or h.ok (A 12) (zn (C.em k)) (zn s) hx C.nw (Nat.le_refl _) with ⟨q1, q2⟩ | ⟨n9, q0, q1, q2⟩
        · have es : cmi C (A 12) (A 13) (zn s) x (k + 1) = cmi C (A 12) (A 13) (zn s) x k := by rw [cmi_s, ei, q2, if_neg hmu]
          have hf : ¬ 100000000 ≤ C.wo k := by omega
          refine ⟨M3, ⟨f.tr (f3.mo (fun o j q => Or.inl q)), by rw [es]; exact i43'⟩, ?_⟩
          simp (disch := omega) only [es, q1, ↓lt_u, ↓jn_u, ↓bd_s, bd_s, ↓rf_s, rf_s, ↓nl_s, ↓nl_n, nl_s, nl_n, ↓reduceIte, ↓ckb24, ↓ckb256, ckb_T, ckb01, ↓ck_zn, ↓ck_l, ck_zn, ck_l, z_ne_o, o_ne_z, zn_addl, zn_le, ix_zn, l_le_zn, zn_lt_l, l_lt_zn, zn_lt, Nat.zero_le, Nat.le_refl, Nat.not_lt_zero, Int32.reduceLE, Int32.reduceLT, eq_self, b01_0, b10_0, ix_l, vsi_i, vsi_l, vsi_r, vsi_k, vsi_n, vsi_w, vsl_i, vsl_l, vsl_r, vsl_k, vsl_n, vsl_w, vsr_i, vsr_l, vsr_r, vsr_k, vsr_n, vsr_w, and_self, and_true, true_and, and_false, false_and, or_self, or_true, true_or, or_false, false_or, not_true_eq_false, not_false_eq_true, ne_eq, eq_self, reduceCtorEq, Nat.reduceEqDiff, Nat.reduceAdd, Nat.reduceMul, Nat.reduceSub, Nat.reduceLT, Nat.reduceLeDiff, Nat.reduceDiv, Nat.add_zero, Nat.zero_add, Nat.not_lt_zero, Nat.zero_le, Nat.le_refl, Nat.lt_irrefl, ↓bde (ms_field3 h3 hk), hf]
        · by_cases c3 : n9 ≤ C.wo k
          · have es : cmi C (A 12) (A 13) (zn s) x (k + 1) = ((cmi C (A 12) (A 13) (zn s) x k).1 + zn n9, (cmi C (A 12) (A 13) (zn s) x k).2 + 1) := by rw [cmi_s, ei, q2, if_pos (by rw [zn_le (by omega) (by omega)]; exact c3)]
            refine ⟨M3.si 72 43 ((cmi C (A 12) (A 13) (zn s) x k).2 + 1), ⟨(f.tr (f3.mo (fun o j q => Or.inl q))).si (by unfold cc; omega), by rw [es, si_i, if_pos ⟨rfl, rfl⟩]⟩, ?_⟩
            simp (disch := omega) only [es, q1, ↓lt_u, ↓jn_u, ↓bd_s, bd_s, ↓rf_s, rf_s, ↓nl_s, ↓nl_n, nl_s, nl_n, ↓reduceIte, ↓ckb24, ↓ckb256, ckb_T, ckb01, ↓ck_zn, ↓ck_l, ck_zn, ck_l, z_ne_o, o_ne_z, zn_addl, zn_le, ix_zn, l_le_zn, zn_lt_l, l_lt_zn, zn_lt, Nat.zero_le, Nat.le_refl, Nat.not_lt_zero, Int32.reduceLE, Int32.reduceLT, eq_self, b01_0, b10_0, ix_l, vsi_i, vsi_l, vsi_r, vsi_k, vsi_n, vsi_w, vsl_i, vsl_l, vsl_r, vsl_k, vsl_n, vsl_w, vsr_i, vsr_l, vsr_r, vsr_k, vsr_n, vsr_w, and_self, and_true, true_and, and_false, false_and, or_self, or_true, true_or, or_false, false_or, not_true_eq_false, not_false_eq_true, ne_eq, eq_self, reduceCtorEq, Nat.reduceEqDiff, Nat.reduceAdd, Nat.reduceMul, Nat.reduceSub, Nat.reduceLT, Nat.reduceLeDiff, Nat.reduceDiv, Nat.add_zero, Nat.zero_add, Nat.not_lt_zero, Nat.zero_le, Nat.le_refl, Nat.lt_irrefl, ↓bde (ms_field3 h3 hk), c3, i43']
          · have es : cmi C (A 12) (A 13) (zn s) x (k + 1) = cmi C (A 12) (A 13) (zn s) x k := by rw [cmi_s, ei, q2, if_neg (by rw [zn_le (by omega) (by omega)]; exact c3)]
            refine ⟨M3, ⟨f.tr (f3.mo (fun o j q => Or.inl q)), by rw [es]; exact i43'⟩, ?_⟩
            simp (disch := omega) only [es, q1, ↓lt_u, ↓jn_u, ↓bd_s, bd_s, ↓rf_s, rf_s, ↓nl_s, ↓nl_n, nl_s, nl_n, ↓reduceIte, ↓ckb24, ↓ckb256, ckb_T, ckb01, ↓ck_zn, ↓ck_l, ck_zn, ck_l, z_ne_o, o_ne_z, zn_addl, zn_le, ix_zn, l_le_zn, zn_lt_l, l_lt_zn, zn_lt, Nat.zero_le, Nat.le_refl, Nat.not_lt_zero, Int32.reduceLE, Int32.reduceLT, eq_self, b01_0, b10_0, ix_l, vsi_i, vsi_l, vsi_r, vsi_k, vsi_n, vsi_w, vsl_i, vsl_l, vsl_r, vsl_k, vsl_n, vsl_w, vsr_i, vsr_l, vsr_r, vsr_k, vsr_n, vsr_w, and_self, and_true, true_and, and_false, false_and, or_self, or_true, true_or, or_false, false_or, not_true_eq_false, not_false_eq_true, ne_eq, eq_self, reduceCtorEq, Nat.reduceEqDiff, Nat.reduceAdd, Nat.reduceMul, Nat.reduceSub, Nat.reduceLT, Nat.reduceLeDiff, Nat.reduceDiv, Nat.add_zero, Nat.zero_add, Nat.not_lt_zero, Nat.zero_le, Nat.le_refl, Nat.lt_irrefl, ↓bde (ms_field3 h3 hk), c3]
      · have es : cmi C (A 12) (A 13) (zn s) x (k + 1) = cmi C (A 12) (A 13) (zn s) x k := by
          rw [cmi_s, if_neg]
          unfold its
          rw [if_neg c1]
          exact hmu
        refine ⟨M2, ⟨f, by rw [es]; exact i43⟩, ?_⟩
        rw [es, m_takesBy_L10, h2.ne, if_neg (by rw [zn_le (by omega) (by omega)]; omega), ck13, ix13, i13, bde (ms_has _ _ _), if_neg c2, jn_u, if_pos rfl, bde (ms_field2 h2 hk), if_neg c1]
        simp only [lt_u, zn_addl]
  · obtain ⟨f, i43⟩ := hI
    have h2 := h.fy f.cy
    refine ⟨M2, ?_, f, i43⟩
    show m_takesBy_L10 (zn s) (zn x) (n + 1) _ (zn C.ne) M2 = _
    rw [m_takesBy_L10, h2.ne, if_pos (Int32.le_refl _)]
/-! takes -/
theorem xq_takes {s x : Nat} (hs : s < C.ns) (hx : x ≤ 99) : QX C A l [(cmi C (A 12) (A 13) (zn s) x C.ne).2.toInt64] (cmi C (A 12) (A 13) (zn s) x C.ne).1 (x_takes (zn s) (zn x)) := by
  intro M h ha _ hl
  obtain ⟨M1, e1, f1, i1⟩ := xs_comesIn h ha (s := s) hx
  obtain ⟨M2, e2, f2, l2⟩ := xs_tell0 M1 ((cmi C (A 12) (A 13) (zn s) x C.ne).2.toInt64)
  refine ⟨M2, ?_, f1.cx.tr f2.wx, l2⟩
  have i2 : (M1.si 20 67 0).i 20 57 = (cmi C (A 12) (A 13) (zn s) x C.ne).2 := by rw [si_i, if_neg (by omega)]; exact i1
  unfold x_takes
  rw [bde (xt_stat h hs), if_neg (by decide), bde (xt_99 hx M), if_neg (by decide), bde e1, lt_u, i2, bde e2]
theorem yq_takes {s x : Nat} (hs : s < C.ns) (hx : x ≤ 99) : QY C A l [(cmi C (A 12) (A 13) (zn s) x C.ne).2.toInt64] (cmi C (A 12) (A 13) (zn s) x C.ne).1 (m_takes (zn s) (zn x)) := by
  intro M h ha _ hl
  have h' := h.fy (f13 (M := M))
  have ha' := ha.fy (f13 (M := M))
  obtain ⟨M1, e1, f1, i1⟩ := ms_takesBy h' ha' (s := s) hx
  obtain ⟨M2, e2, f2, l2⟩ := ms_tell0 M1 ((cmi C (A 12) (A 13) (zn s) x C.ne).2.toInt64)
  refine ⟨M2, ?_, (f13.tr f1.cy).tr f2.wy, l2⟩
  have i2 : (M1.si 72 12 0).i 72 43 = (cmi C (A 12) (A 13) (zn s) x C.ne).2 := by rw [si_i, if_neg (by omega)]; exact i1
  unfold m_takes
  rw [lt_u, bde (mt_stat h' hs), if_neg (by decide), bde (mt_99 hx _), if_neg (by decide), bde e1, lt_u, i2, bde e2]
theorem call_takes (p q : Int32) : Call (x_takes p q) (m_takes p q) := by
  refine Call.of (fun C A l hC hA hl => ?_)
  have b2 := hC.ns6
  rcases dm_or (show C.ns < 2147483648 by omega) p with ⟨s, hs, rfl⟩ | hn
  · rcases dl_or (n := 99) (by omega) q with ⟨x, hx, rfl⟩ | hn2
    · exact ⟨_, _, one15 _, xq_takes hs hx, yq_takes hs hx⟩
    · refine ⟨-1, l, hl, fun M h ha _ hx => ⟨M, ?_, Fq.rf, hx⟩, fun M h ha _ hx => ⟨M.si 72 13 0, ?_, f13, ly13 hx⟩⟩
      · unfold x_takes
        rw [bde (xt_stat h hs), if_neg (by decide), bde (xn_99 hn2 M), if_pos rfl]
      · unfold m_takes
        rw [lt_u, bde (mt_stat (h.fy f13) hs), if_neg (by decide), bde (mn_99 hn2 _), if_pos rfl]
  · refine ⟨-1, l, hl, fun M h ha _ hx => ⟨M, ?_, Fq.rf, hx⟩, fun M h ha _ hx => ⟨M.si 72 13 0, ?_, f13, ly13 hx⟩⟩
    · unfold x_takes
      rw [bde (xn_stat h hn), if_pos rfl]
    · unfold m_takes
      rw [lt_u, bde (mn_stat (h.fy f13) hn), if_pos rfl]
/-! greed -/
def grd (C : SV) (hr d st : Int32) (n : Nat) : Nat := itr (fun k s => if (cmi C hr d st (k + 1) C.ne).1 ≤ (cmi C hr d st s C.ne).1 then s else k + 1) n 0
theorem grd_s (C : SV) (hr d st : Int32) (n : Nat) : grd C hr d st (n + 1) = if (cmi C hr d st (n + 1) C.ne).1 ≤ (cmi C hr d st (grd C hr d st n) C.ne).1 then grd C hr d st n else n + 1 := rfl
theorem grd_le (C : SV) (hr d st : Int32) : ∀ n, grd C hr d st n ≤ n := by
  intro n
  induction n with
  | zero => exact Nat.le_refl _
  | succ n ih =>
    rw [grd_s]
    split <;> omega
theorem xq_greed {s : Nat} (hs : s < C.ns) : QX C A l [(cmi C (A 12) (A 13) (zn s) (grd C (A 12) (A 13) (zn s) 99) C.ne).1.toInt64, (cmi C (A 12) (A 13) (zn s) 0 C.ne).1.toInt64] (zn (grd C (A 12) (A 13) (zn s) 99)) (x_greed (zn s)) := by
  intro M h ha _ hl
  have gl := grd_le C (A 12) (A 13) (zn s)
  have hun : x_greed (zn s) M = x_greed_L14 (zn s) (fun (v8 : Int32) (M5 : PM) => lt (M5.si 20 67 0) fun M6 => bd (x_comesIn (zn s) v8 M6) fun v9 M7 => bd (x_tells (Int32.toInt64 v9) M7) fun _ M8 => bd (x_comesIn (zn s) 0 M8) fun v10 M9 => bd (x_tells (Int32.toInt64 v10) M9) fun _ M10 => some (v8, M10)) FU 0 1 M := by
    unfold x_greed
    rw [bde (xt_stat h hs), if_neg (by decide)]
  rw [hun]
  have := wlp (fun n k (_ : Unit) M2 => x_greed_L14 (zn s) (fun (v8 : Int32) (M5 : PM) => lt (M5.si 20 67 0) fun M6 => bd (x_comesIn (zn s) v8 M6) fun v9 M7 => bd (x_tells (Int32.toInt64 v9) M7) fun _ M8 => bd (x_comesIn (zn s) 0 M8) fun v10 M9 => bd (x_tells (Int32.toInt64 v10) M9) fun _ M10 => some (v8, M10)) n (zn (grd C (A 12) (A 13) (zn s) k)) (zn (k + 1)) M2) 99 FU (FU_lt (by omega)) (fun _ s => s) () (fun k M2 => Fq cc M M2) (fun o => ∃ M2, o = some (zn (grd C (A 12) (A 13) (zn s) 99), M2) ∧ Fq xq M M2 ∧ LX [(cmi C (A 12) (A 13) (zn s) (grd C (A 12) (A 13) (zn s) 99) C.ne).1.toInt64, (cmi C (A 12) (A 13) (zn s) 0 C.ne).1.toInt64] M2) (fun n k M2 hk f => ?_) (fun n M2 f => ?_) M Fq.rf
  · exact this
  · have h2 := h.fx f.cx
    have a2 := ha.fx f.cx
    obtain ⟨M3, e3, f3, -⟩ := xs_comesIn h2 a2 (s := s) (x := k + 1) (by omega)
    have glk := gl k
    obtain ⟨M4, e4, f4, -⟩ := xs_comesIn (h2.fx f3.cx) (a2.fx f3.cx) (s := s) (x := grd C (A 12) (A 13) (zn s) k) (by omega)
    refine ⟨M4, (f.tr f3).tr f4, ?_⟩
    show x_greed_L14 (zn s) _ (n + 1) (zn (grd C (A 12) (A 13) (zn s) k)) (zn (k + 1)) M2 = x_greed_L14 (zn s) _ n (zn (grd C (A 12) (A 13) (zn s) (k + 1))) (zn (k + 1 + 1)) M4
    have g : ¬ 99 < k + 1 := by omega
    rw [grd_s]
    by_cases q : (cmi C (A 12) (A 13) (zn s) (k + 1) C.ne).1 ≤ (cmi C (A 12) (A 13) (zn s) (grd C (A 12) (A 13) (zn s) k) C.ne).1
    · simp (disch := omega) only [x_greed_L14, ↓lt_u, ↓jn_u, ↓bd_s, bd_s, ↓rf_s, rf_s, ↓nl_s, ↓nl_n, nl_s, nl_n, ↓reduceIte, ↓ckb24, ↓ckb256, ckb_T, ckb01, ↓ck_zn, ↓ck_l, ck_zn, ck_l, z_ne_o, o_ne_z, zn_addl, zn_le, ix_zn, l_le_zn, zn_lt_l, l_lt_zn, zn_lt, Nat.zero_le, Nat.le_refl, Nat.not_lt_zero, Int32.reduceLE, Int32.reduceLT, eq_self, b01_0, b10_0, ix_l, vsi_i, vsi_l, vsi_r, vsi_k, vsi_n, vsi_w, vsl_i, vsl_l, vsl_r, vsl_k, vsl_n, vsl_w, vsr_i, vsr_l, vsr_r, vsr_k, vsr_n, vsr_w, and_self, and_true, true_and, and_false, false_and, or_self, or_true, true_or, or_false, false_or, not_true_eq_false, not_false_eq_true, ne_eq, eq_self, reduceCtorEq, Nat.reduceEqDiff, Nat.reduceAdd, Nat.reduceMul, Nat.reduceSub, Nat.reduceLT, Nat.reduceLeDiff, Nat.reduceDiv, Nat.add_zero, Nat.zero_add, Nat.not_lt_zero, Nat.zero_le, Nat.le_refl, Nat.lt_irrefl, ↓bde e3, e3, ↓bde e4, e4, q, g]
    · simp (disch := omega) only [x_greed_L14, ↓lt_u, ↓jn_u, ↓bd_s, bd_s, ↓rf_s, rf_s, ↓nl_s, ↓nl_n, nl_s, nl_n, ↓reduceIte, ↓ckb24, ↓ckb256, ckb_T, ckb01, ↓ck_zn, ↓ck_l, ck_zn, ck_l, z_ne_o, o_ne_z, zn_addl, zn_le, ix_zn, l_le_zn, zn_lt_l, l_lt_zn, zn_lt, Nat.zero_le, Nat.le_refl, Nat.not_lt_zero, Int32.reduceLE, Int32.reduceLT, eq_self, b01_0, b10_0, ix_l, vsi_i, vsi_l, vsi_r, vsi_k, vsi_n, vsi_w, vsl_i, vsl_l, vsl_r, vsl_k, vsl_n, vsl_w, vsr_i, vsr_l, vsr_r, vsr_k, vsr_n, vsr_w, and_self, and_true, true_and, and_false, false_and, or_self, or_true, true_or, or_false, false_or, not_true_eq_false, not_false_eq_true, ne_eq, eq_self, reduceCtorEq, Nat.reduceEqDiff, Nat.reduceAdd, Nat.reduceMul, Nat.reduceSub, Nat.reduceLT, Nat.reduceLeDiff, Nat.reduceDiv, Nat.add_zero, Nat.zero_add, Nat.not_lt_zero, Nat.zero_le, Nat.le_refl, Nat.lt_irrefl, ↓bde e3, e3, ↓bde e4, e4, q, g]
  · have h2 := (h.fx f.cx).fx (f67 (M := M2))
    have a2 := (ha.fx f.cx).fx (f67 (M := M2))
    have g99 := gl 99
    obtain ⟨M3, e3, f3, -⟩ := xs_comesIn h2 a2 (s := s) (x := grd C (A 12) (A 13) (zn s) 99) (by omega)
    obtain ⟨M4, e4, f4, l4⟩ := xs_tells ((lx0 M2).fr f3 (by unfold cc ca; omega) (fun j => by unfold cc ca; omega)) (by show 0 < 16; omega) ((cmi C (A 12) (A 13) (zn s) (grd C (A 12) (A 13) (zn s) 99) C.ne).1.toInt64)
    obtain ⟨M5, e5, f5, -⟩ := xs_comesIn ((h2.fx f3.cx).fx f4.wx) ((a2.fx f3.cx).fx f4.wx) (s := s) (x := 0) (by omega)
    have e5' : x_comesIn (zn s) 0 M4 = _ := e5
    obtain ⟨M6, e6, f6, l6⟩ := xs_tell1 (l4.fr f5 (by unfold cc ca; omega) (fun j => by unfold cc ca; omega)) ((cmi C (A 12) (A 13) (zn s) 0 C.ne).1.toInt64)
    refine ⟨M6, ?_, ((((f.cx.tr f67).tr f3.cx).tr f4.wx).tr f5.cx).tr f6.wx, l6⟩
    show x_greed_L14 (zn s) _ (n + 1) (zn (grd C (A 12) (A 13) (zn s) 99)) (zn (99 + 1)) M2 = _
    rw [x_greed_L14, if_pos (by decide), lt_u, bde e3, bde e4, bde e5', bde e6]
theorem yq_greed {s : Nat} (hs : s < C.ns) : QY C A l [(cmi C (A 12) (A 13) (zn s) (grd C (A 12) (A 13) (zn s) 99) C.ne).1.toInt64, (cmi C (A 12) (A 13) (zn s) 0 C.ne).1.toInt64] (zn (grd C (A 12) (A 13) (zn s) 99)) (m_greed (zn s)) := by
  intro M0 h0 ha0 _ hl
  have gl := grd_le C (A 12) (A 13) (zn s)
  have h' := h0.fy (f13 (M := M0))
  have ha' := ha0.fy (f13 (M := M0))
  obtain ⟨M, e0, f0, -⟩ := ms_takesBy h' ha' (s := s) (x := 0) (by omega)
  have e0' : m_takesBy (zn s) 0 (M0.si 72 13 0) = _ := e0
  have h := h'.fy f0.cy
  have ha := ha'.fy f0.cy
  obtain ⟨as, has⟩ : ∃ as : Int32, as = (cmi C (A 12) (A 13) (zn s) 0 C.ne).1 := ⟨_, rfl⟩
  have hun : m_greed (zn s) M0 = m_greed_L30 (zn s) as (fun (v10 : Int32) (v11 : Int32) (M7 : PM) => lt (M7.si 72 12 0) fun M8 => bd (m_tell (Int32.toInt64 v11) M8) fun _ M9 => bd (m_tell (Int32.toInt64 as) M9) fun _ M10 => some (v10, M10)) FU 0 as 1 M := by
    unfold m_greed
    rw [lt_u, bde (mt_stat h' hs), if_neg (by decide), bde e0', ← has]
  rw [hun]
  have := wlp (fun n k (_ : Unit) M2 => m_greed_L30 (zn s) as (fun (v10 : Int32) (v11 : Int32) (M7 : PM) => lt (M7.si 72 12 0) fun M8 => bd (m_tell (Int32.toInt64 v11) M8) fun _ M9 => bd (m_tell (Int32.toInt64 as) M9) fun _ M10 => some (v10, M10)) n (zn (grd C (A 12) (A 13) (zn s) k)) (cmi C (A 12) (A 13) (zn s) (grd C (A 12) (A 13) (zn s) k) C.ne).1 (zn (k + 1)) M2) 99 FU (FU_lt (by omega)) (fun _ s => s) () (fun k M2 => Fq cc M M2) (fun o => ∃ M2, o = some (zn (grd C (A 12) (A 13) (zn s) 99), M2) ∧ Fq yq M0 M2 ∧ LY [(cmi C (A 12) (A 13) (zn s) (grd C (A 12) (A 13) (zn s) 99) C.ne).1.toInt64, (cmi C (A 12) (A 13) (zn s) 0 C.ne).1.toInt64] M2) (fun n k M2 hk f => ?_) (fun n M2 f => ?_) M Fq.rf
  · rw [has] at this ⊢
    exact this
  · have h2 := h.fy f.cy
    have a2 := ha.fy f.cy
    obtain ⟨M3, e3, f3, -⟩ := ms_takesBy h2 a2 (s := s) (x := k + 1) (by omega)
    refine ⟨M3, f.tr f3, ?_⟩
    show m_greed_L30 (zn s) as _ (n + 1) (zn (grd C (A 12) (A 13) (zn s) k)) (cmi C (A 12) (A 13) (zn s) (grd C (A 12) (A 13) (zn s) k) C.ne).1 (zn (k + 1)) M2 = m_greed_L30 (zn s) as _ n (zn (grd C (A 12) (A 13) (zn s) (k + 1))) (cmi C (A 12) (A 13) (zn s) (grd C (A 12) (A 13) (zn s) (k + 1)) C.ne).1 (zn (k + 1 + 1)) M3
    have g : ¬ 99 < k + 1 := by omega
    rw [grd_s]
    by_cases q : (cmi C (A 12) (A 13) (zn s) (k + 1) C.ne).1 ≤ (cmi C (A 12) (A 13) (zn s) (grd C (A 12) (A 13) (zn s) k) C.ne).1
    · have q2 : ¬ (cmi C (A 12) (A 13) (zn s) (grd C (A 12) (A 13) (zn s) k) C.ne).1 < (cmi C (A 12) (A 13) (zn s) (k + 1) C.ne).1 := Int32.not_lt.mpr q
      simp (disch := omega) only [m_greed_L30, ↓lt_u, ↓jn_u, ↓bd_s, bd_s, ↓rf_s, rf_s, ↓nl_s, ↓nl_n, nl_s, nl_n, ↓reduceIte, ↓ckb24, ↓ckb256, ckb_T, ckb01, ↓ck_zn, ↓ck_l, ck_zn, ck_l, z_ne_o, o_ne_z, zn_addl, zn_le, ix_zn, l_le_zn, zn_lt_l, l_lt_zn, zn_lt, Nat.zero_le, Nat.le_refl, Nat.not_lt_zero, Int32.reduceLE, Int32.reduceLT, eq_self, b01_0, b10_0, ix_l, vsi_i, vsi_l, vsi_r, vsi_k, vsi_n, vsi_w, vsl_i, vsl_l, vsl_r, vsl_k, vsl_n, vsl_w, vsr_i, vsr_l, vsr_r, vsr_k, vsr_n, vsr_w, and_self, and_true, true_and, and_false, false_and, or_self, or_true, true_or, or_false, false_or, not_true_eq_false, not_false_eq_true, ne_eq, eq_self, reduceCtorEq, Nat.reduceEqDiff, Nat.reduceAdd, Nat.reduceMul, Nat.reduceSub, Nat.reduceLT, Nat.reduceLeDiff, Nat.reduceDiv, Nat.add_zero, Nat.zero_add, Nat.not_lt_zero, Nat.zero_le, Nat.le_refl, Nat.lt_irrefl, ↓bde e3, e3, q, q2, g]
    · have q2 : (cmi C (A 12) (A 13) (zn s) (grd C (A 12) (A 13) (zn s) k) C.ne).1 < (cmi C (A 12) (A 13) (zn s) (k + 1) C.ne).1 := Int32.not_le.mp q
      simp (disch := omega) only [m_greed_L30, ↓lt_u, ↓jn_u, ↓bd_s, bd_s, ↓rf_s, rf_s, ↓nl_s, ↓nl_n, nl_s, nl_n, ↓reduceIte, ↓ckb24, ↓ckb256, ckb_T, ckb01, ↓ck_zn, ↓ck_l, ck_zn, ck_l, z_ne_o, o_ne_z, zn_addl, zn_le, ix_zn, l_le_zn, zn_lt_l, l_lt_zn, zn_lt, Nat.zero_le, Nat.le_refl, Nat.not_lt_zero, Int32.reduceLE, Int32.reduceLT, eq_self, b01_0, b10_0, ix_l, vsi_i, vsi_l, vsi_r, vsi_k, vsi_n, vsi_w, vsl_i, vsl_l, vsl_r, vsl_k, vsl_n, vsl_w, vsr_i, vsr_l, vsr_r, vsr_k, vsr_n, vsr_w, and_self, and_true, true_and, and_false, false_and, or_self, or_true, true_or, or_false, false_or, not_true_eq_false, not_false_eq_true, ne_eq, eq_self, reduceCtorEq, Nat.reduceEqDiff, Nat.reduceAdd, Nat.reduceMul, Nat.reduceSub, Nat.reduceLT, Nat.reduceLeDiff, Nat.reduceDiv, Nat.add_zero, Nat.zero_add, Nat.not_lt_zero, Nat.zero_le, Nat.le_refl, Nat.lt_irrefl, ↓bde e3, e3, q, q2, g]
  · obtain ⟨M4, e4, f4, l4⟩ := ms_tell0 M2 ((cmi C (A 12) (A 13) (zn s) (grd C (A 12) (A 13) (zn s) 99) C.ne).1.toInt64)
    obtain ⟨M6, e6, f6, l6⟩ := ms_tell1 l4 (as.toInt64)
    refine ⟨M6, ?_, (((f13.tr f0.cy).tr f.cy).tr f4.wy).tr f6.wy, by rw [← has]; exact l6⟩
    show m_greed_L30 (zn s) as _ (n + 1) (zn (grd C (A 12) (A 13) (zn s) 99)) _ (zn (99 + 1)) M2 = _
    rw [m_greed_L30, if_pos (by decide), lt_u, bde e4, bde e6]
theorem call_greed (p : Int32) : Call (x_greed p) (m_greed p) := by
  refine Call.of (fun C A l hC hA hl => ?_)
  have b2 := hC.ns6
  rcases dm_or (show C.ns < 2147483648 by omega) p with ⟨s, hs, rfl⟩ | hn
  · exact ⟨_, _, two15 _ _, xq_greed hs, yq_greed hs⟩
  · refine ⟨-1, l, hl, fun M h ha _ hx => ⟨M, ?_, Fq.rf, hx⟩, fun M h ha _ hx => ⟨M.si 72 13 0, ?_, f13, ly13 hx⟩⟩
    · unfold x_greed
      rw [bde (xn_stat h hn), if_pos rfl]
    · unfold m_greed
      rw [lt_u, bde (mn_stat (h.fy f13) hn), if_pos rfl]
end
