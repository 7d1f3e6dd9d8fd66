set_option maxRecDepth 100000
/-! THE SYSTEM'S TOLLS -/
section
variable {C : SV} {M : PM}
theorem nvb_le (C : SV) (w k : Nat) : nvb C w k ≤ k := by
  unfold nvb
  refine itr_inv (fun k s => s ≤ k) (Nat.le_refl _) (fun j _ a h => ?_)
  split <;> omega
theorem v_rule (h : CX C M) {a : Nat} {D : Dn} (hd : DenT M 100 a D) : v_value a M = some (D (ask7 M), M) := v_den (kd20 h.sh) hd 120 (by omega)
/-- one vowel's cost: the askings stand in the memory -/
theorem ask7_akd {w k : Nat} {st hr : Int32} (e0 : M.i 20 31 = vow (C.lt w k)) (e1 : M.i 20 32 = st) (e2 : M.i 20 33 = hr - hr / 24 * 24) (e3 : M.i 20 34 = zn (C.len w)) (e4 : M.i 20 35 = zn k) (e5 : M.i 20 36 = zn (nvb C w k)) (e6 : M.i 20 37 = if 0 < k ∧ C.lt w k = C.lt w (k - 1) then 1 else 0) : ask7 M = akd C w st hr k := by
  funext i
  unfold ask7 akd
  match i with
  | 0 => exact e0
  | 1 => exact e1
  | 2 => exact e2
  | 3 => exact e3
  | 4 => exact e4
  | 5 => exact e5
  | 6 => exact e6
  | i + 7 => exact if_neg (by omega)
/-- the loop over a word's letters -/
def tI (C : SV) (M0 : PM) (w : Nat) (st hr : Int32) (k : Nat) (M : PM) : Prop := Fq ca M0 M ∧ M.i 20 32 = st ∧ M.i 20 33 = hr - hr / 24 * 24 ∧ M.i 20 34 = zn (C.len w) ∧ M.i 20 36 = zn (nvb C w k) ∧ ∀ v, v < 5 → M.i 50 v = tvp C w st hr (zn v) k
theorem tvp_s (C : SV) (w : Nat) (st hr v : Int32) (k : Nat) : tvp C w st hr v (k + 1) = if vow (C.lt w k) = v then tvp C w st hr v k + cst C w st hr k else tvp C w st hr v k := rfl
theorem nvb_s (C : SV) (w k : Nat) : nvb C w (k + 1) = if vow (C.lt w k) = -1 then nvb C w k else nvb C w k + 1 := rfl
theorem xs_tollExec (h1 : CX C M) {w : Nat} (hw : w < C.nw) {st hr : Int32} {n k v : Nat} (hk : k < C.len w) (hv5 : v < 5) (hv : vow (C.lt w k) = zn v) (s dd : Int32) (hdd : dd = if 0 < k ∧ C.lt w k = C.lt w (k - 1) then 1 else 0)
    (ea : ask7 (((M.si 20 31 (zn v)).si 20 35 (zn k)).si 20 37 dd) = akd C w st hr k) :
    x_tollOf_L57 (zn w) (n + 1) s (zn k) M = x_tollOf_L57 (zn w) n (s + cst C w st hr k) (zn (k + 1)) (((((M.si 20 31 (zn v)).si 20 35 (zn k)).si 20 37 dd).si 50 v (M.i 50 v + cst C w st hr k)).si 20 36 (M.i 20 36 + 1)) := by
  have b1 := h1.ok.nw10
  have b2 := h1.ok.len6 w hw
  have b3 := h1.ok.lt26 w hw
  have l1 := b3 k hk
  have g1 : ¬ C.len w ≤ k := by omega
  have f2 : Fq ca M (((M.si 20 31 (zn v)).si 20 35 (zn k)).si 20 37 dd) := ((Fq.rf.si (by unfold ca; omega)).si (by unfold ca; omega)).si (by unfold ca; omega)
  have h2 := h1.fa f2
  have e2 : 0 < k → M.i 31 (6 * w + k - 1) = zn (C.lt w (k - 1)) := fun q => by
    have := h1.lt w hw (k - 1) (by omega)
    rwa [show 6 * w + (k - 1) = 6 * w + k - 1 by omega] at this
  have l2 : 0 < k → C.lt w (k - 1) < 26 := fun q => b3 (k - 1) (by omega)
  obtain ⟨c, hc⟩ : ∃ c, c = cst C w st hr k := ⟨_, rfl⟩
  rw [← hc]
  rcases h2.ru with ⟨r1, r2⟩ | ⟨r1, a, r2, r3⟩
  · have ec : zn (v + 1) = c := by
      rw [hc]; unfold cst
      rw [if_pos r1, hv]
      exact (zn_addl v 1).symm
    have r2' : M.r 20 38 = none := r2
    rcases Nat.eq_zero_or_pos k with k0 | k0
    · subst k0
      have hd : dd = 0 := by rw [hdd, if_neg (by omega)]
      subst hd
      simp (disch := omega) only [x_tollOf_L57, lt_u, jn_u, bd_s, rf_s, nl_s, nl_n, ↓reduceIte, ↓ckb24, ↓ckb256, ckb_T, ckb01, vsi_i, vsi_l, vsi_r, vsi_k, vsi_n, vsi_w, vsl_i, vsl_l, vsl_r, vsl_k, vsl_n, vsl_w, vsr_i, vsr_l, vsr_r, vsr_k, vsr_n, vsr_w, and_self, and_true, true_and, and_false, false_and, or_self, or_true, true_or, or_false, false_or, not_true_eq_false, not_false_eq_true, ne_eq, eq_self, reduceCtorEq, Nat.reduceEqDiff, Nat.reduceAdd, Nat.reduceMul, Nat.reduceSub, Nat.reduceLT, Nat.reduceLeDiff, Nat.reduceDiv, Nat.add_zero, Nat.zero_add, Nat.not_lt_zero, Nat.zero_le, Nat.le_refl, Nat.lt_irrefl, l_eq_l, m_eq_l, l_eq_m, Int32.reduceLT, Int32.reduceLE, Int32.reduceAdd, Int32.reduceSub, Int32.reduceMul, b01_0, b01_1, b10_0, z_ne_o, o_ne_z, zn_add, zn_addl, zn_ladd, zn_mull, zn_subl, ix_zn, ix_l, ck_zn, ck_l, zn_le, zn_le_l, l_le_zn, zn_lt, zn_lt_l, l_lt_zn, zn_eq, zn_eq_l, l_eq_zn, zn_eq_m, m_eq_zn, m_le_zn, zn_lt_m, imin_zn, imax_zn, zn_le_m, h1.len, xs_vowelAt h1 hw hk, hv, r2', ec, g1]
    · have e2 := e2 k0
      have l2 := l2 k0
      have g2 : ¬ k ≤ 0 := by omega
      by_cases hq : C.lt w k = C.lt w (k - 1)
      · have hd : dd = 1 := by rw [hdd, if_pos ⟨k0, hq⟩]
        subst hd
        simp (disch := omega) only [x_tollOf_L57, lt_u, jn_u, bd_s, rf_s, nl_s, nl_n, ↓reduceIte, ↓ckb24, ↓ckb256, ckb_T, ckb01, vsi_i, vsi_l, vsi_r, vsi_k, vsi_n, vsi_w, vsl_i, vsl_l, vsl_r, vsl_k, vsl_n, vsl_w, vsr_i, vsr_l, vsr_r, vsr_k, vsr_n, vsr_w, and_self, and_true, true_and, and_false, false_and, or_self, or_true, true_or, or_false, false_or, not_true_eq_false, not_false_eq_true, ne_eq, eq_self, reduceCtorEq, Nat.reduceEqDiff, Nat.reduceAdd, Nat.reduceMul, Nat.reduceSub, Nat.reduceLT, Nat.reduceLeDiff, Nat.reduceDiv, Nat.add_zero, Nat.zero_add, Nat.not_lt_zero, Nat.zero_le, Nat.le_refl, Nat.lt_irrefl, l_eq_l, m_eq_l, l_eq_m, Int32.reduceLT, Int32.reduceLE, Int32.reduceAdd, Int32.reduceSub, Int32.reduceMul, b01_0, b01_1, b10_0, z_ne_o, o_ne_z, zn_add, zn_addl, zn_ladd, zn_mull, zn_subl, ix_zn, ix_l, ck_zn, ck_l, zn_le, zn_le_l, l_le_zn, zn_lt, zn_lt_l, l_lt_zn, zn_eq, zn_eq_l, l_eq_zn, zn_eq_m, m_eq_zn, m_le_zn, zn_lt_m, imin_zn, imax_zn, zn_le_m, h1.len, xs_vowelAt h1 hw hk, hv, r2', ec, g1, g2, h1.lt, e2, ← hq]
      · have hd : dd = 0 := by rw [hdd, if_neg (fun q => hq q.2)]
        subst hd
        simp (disch := omega) only [x_tollOf_L57, lt_u, jn_u, bd_s, rf_s, nl_s, nl_n, ↓reduceIte, ↓ckb24, ↓ckb256, ckb_T, ckb01, vsi_i, vsi_l, vsi_r, vsi_k, vsi_n, vsi_w, vsl_i, vsl_l, vsl_r, vsl_k, vsl_n, vsl_w, vsr_i, vsr_l, vsr_r, vsr_k, vsr_n, vsr_w, and_self, and_true, true_and, and_false, false_and, or_self, or_true, true_or, or_false, false_or, not_true_eq_false, not_false_eq_true, ne_eq, eq_self, reduceCtorEq, Nat.reduceEqDiff, Nat.reduceAdd, Nat.reduceMul, Nat.reduceSub, Nat.reduceLT, Nat.reduceLeDiff, Nat.reduceDiv, Nat.add_zero, Nat.zero_add, Nat.not_lt_zero, Nat.zero_le, Nat.le_refl, Nat.lt_irrefl, l_eq_l, m_eq_l, l_eq_m, Int32.reduceLT, Int32.reduceLE, Int32.reduceAdd, Int32.reduceSub, Int32.reduceMul, b01_0, b01_1, b10_0, z_ne_o, o_ne_z, zn_add, zn_addl, zn_ladd, zn_mull, zn_subl, ix_zn, ix_l, ck_zn, ck_l, zn_le, zn_le_l, l_le_zn, zn_lt, zn_lt_l, l_lt_zn, zn_eq, zn_eq_l, l_eq_zn, zn_eq_m, m_eq_zn, m_le_zn, zn_lt_m, imin_zn, imax_zn, zn_le_m, h1.len, xs_vowelAt h1 hw hk, hv, r2', ec, g1, g2, h1.lt, e2, hq]
  · have ec : imax 0 (imin 99 (C.ru (akd C w st hr k))) = c := by
      rw [hc]; unfold cst
      rw [if_neg (by omega)]
    have r2' : M.r 20 38 = some a := r2
    have hvv := v_rule h2 r3
    rw [ea] at hvv
    rcases Nat.eq_zero_or_pos k with k0 | k0
    · subst k0
      have hd : dd = 0 := by rw [hdd, if_neg (by omega)]
      subst hd
      simp (disch := omega) only [x_tollOf_L57, lt_u, jn_u, bd_s, rf_s, nl_s, nl_n, ↓reduceIte, ↓ckb24, ↓ckb256, ckb_T, ckb01, vsi_i, vsi_l, vsi_r, vsi_k, vsi_n, vsi_w, vsl_i, vsl_l, vsl_r, vsl_k, vsl_n, vsl_w, vsr_i, vsr_l, vsr_r, vsr_k, vsr_n, vsr_w, and_self, and_true, true_and, and_false, false_and, or_self, or_true, true_or, or_false, false_or, not_true_eq_false, not_false_eq_true, ne_eq, eq_self, reduceCtorEq, Nat.reduceEqDiff, Nat.reduceAdd, Nat.reduceMul, Nat.reduceSub, Nat.reduceLT, Nat.reduceLeDiff, Nat.reduceDiv, Nat.add_zero, Nat.zero_add, Nat.not_lt_zero, Nat.zero_le, Nat.le_refl, Nat.lt_irrefl, l_eq_l, m_eq_l, l_eq_m, Int32.reduceLT, Int32.reduceLE, Int32.reduceAdd, Int32.reduceSub, Int32.reduceMul, b01_0, b01_1, b10_0, z_ne_o, o_ne_z, zn_add, zn_addl, zn_ladd, zn_mull, zn_subl, ix_zn, ix_l, ck_zn, ck_l, zn_le, zn_le_l, l_le_zn, zn_lt, zn_lt_l, l_lt_zn, zn_eq, zn_eq_l, l_eq_zn, zn_eq_m, m_eq_zn, m_le_zn, zn_lt_m, imin_zn, imax_zn, zn_le_m, h1.len, xs_vowelAt h1 hw hk, hv, r2', ec, g1, hvv]
    · have e2 := e2 k0
      have l2 := l2 k0
      have g2 : ¬ k ≤ 0 := by omega
      by_cases hq : C.lt w k = C.lt w (k - 1)
      · have hd : dd = 1 := by rw [hdd, if_pos ⟨k0, hq⟩]
        subst hd
        simp (disch := omega) only [x_tollOf_L57, lt_u, jn_u, bd_s, rf_s, nl_s, nl_n, ↓reduceIte, ↓ckb24, ↓ckb256, ckb_T, ckb01, vsi_i, vsi_l, vsi_r, vsi_k, vsi_n, vsi_w, vsl_i, vsl_l, vsl_r, vsl_k, vsl_n, vsl_w, vsr_i, vsr_l, vsr_r, vsr_k, vsr_n, vsr_w, and_self, and_true, true_and, and_false, false_and, or_self, or_true, true_or, or_false, false_or, not_true_eq_false, not_false_eq_true, ne_eq, eq_self, reduceCtorEq, Nat.reduceEqDiff, Nat.reduceAdd, Nat.reduceMul, Nat.reduceSub, Nat.reduceLT, Nat.reduceLeDiff, Nat.reduceDiv, Nat.add_zero, Nat.zero_add, Nat.not_lt_zero, Nat.zero_le, Nat.le_refl, Nat.lt_irrefl, l_eq_l, m_eq_l, l_eq_m, Int32.reduceLT, Int32.reduceLE, Int32.reduceAdd, Int32.reduceSub, Int32.reduceMul, b01_0, b01_1, b10_0, z_ne_o, o_ne_z, zn_add, zn_addl, zn_ladd, zn_mull, zn_subl, ix_zn, ix_l, ck_zn, ck_l, zn_le, zn_le_l, l_le_zn, zn_lt, zn_lt_l, l_lt_zn, zn_eq, zn_eq_l, l_eq_zn, zn_eq_m, m_eq_zn, m_le_zn, zn_lt_m, imin_zn, imax_zn, zn_le_m, h1.len, xs_vowelAt h1 hw hk, hv, r2', ec, g1, g2, h1.lt, e2, ← hq, hvv]
      · have hd : dd = 0 := by rw [hdd, if_neg (fun q => hq q.2)]
        subst hd
        simp (disch := omega) only [x_tollOf_L57, lt_u, jn_u, bd_s, rf_s, nl_s, nl_n, ↓reduceIte, ↓ckb24, ↓ckb256, ckb_T, ckb01, vsi_i, vsi_l, vsi_r, vsi_k, vsi_n, vsi_w, vsl_i, vsl_l, vsl_r, vsl_k, vsl_n, vsl_w, vsr_i, vsr_l, vsr_r, vsr_k, vsr_n, vsr_w, and_self, and_true, true_and, and_false, false_and, or_self, or_true, true_or, or_false, false_or, not_true_eq_false, not_false_eq_true, ne_eq, eq_self, reduceCtorEq, Nat.reduceEqDiff, Nat.reduceAdd, Nat.reduceMul, Nat.reduceSub, Nat.reduceLT, Nat.reduceLeDiff, Nat.reduceDiv, Nat.add_zero, Nat.zero_add, Nat.not_lt_zero, Nat.zero_le, Nat.le_refl, Nat.lt_irrefl, l_eq_l, m_eq_l, l_eq_m, Int32.reduceLT, Int32.reduceLE, Int32.reduceAdd, Int32.reduceSub, Int32.reduceMul, b01_0, b01_1, b10_0, z_ne_o, o_ne_z, zn_add, zn_addl, zn_ladd, zn_mull, zn_subl, ix_zn, ix_l, ck_zn, ck_l, zn_le, zn_le_l, l_le_zn, zn_lt, zn_lt_l, l_lt_zn, zn_eq, zn_eq_l, l_eq_zn, zn_eq_m, m_eq_zn, m_le_zn, zn_lt_m, imin_zn, imax_zn, zn_le_m, h1.len, xs_vowelAt h1 hw hk, hv, r2', ec, g1, g2, h1.lt, e2, hq, hvv]
theorem xs_tollStep (h : CX C M) {w : Nat} (hw : w < C.nw) {st hr : Int32} {n k : Nat} (hk : k < C.len w) {s : Int32} {M1 : PM} (hI : tI C M w st hr k M1) :
    ∃ M2, tI C M w st hr (k + 1) M2 ∧ x_tollOf_L57 (zn w) (n + 1) s (zn k) M1 = x_tollOf_L57 (zn w) n (if vow (C.lt w k) = -1 then s else s + cst C w st hr k) (zn (k + 1)) M2 := by
  obtain ⟨f, i1, i2, i3, i4, i5⟩ := hI
  have h1 := h.fa f
  have b1 := h.ok.nw10
  have b2 := h.ok.len6 w hw
  have b4 := nvb_le C w k
  rcases vow_or (C.lt w k) with hv | ⟨v, hv5, hv⟩
  · refine ⟨M1, ⟨f, i1, i2, i3, ?_, fun v hv5 => ?_⟩, ?_⟩
    · rw [nvb_s, if_pos hv]; exact i4
    · rw [tvp_s, if_neg (by rw [hv, m_eq_zn (by omega)]; exact id)]
      exact i5 v hv5
    · have g1 : ¬ C.len w ≤ k := by omega
      simp (disch := omega) only [x_tollOf_L57, lt_u, jn_u, bd_s, rf_s, nl_s, nl_n, ↓reduceIte, ↓ckb24, ↓ckb256, ckb_T, ckb01, vsi_i, vsi_l, vsi_r, vsi_k, vsi_n, vsi_w, vsl_i, vsl_l, vsl_r, vsl_k, vsl_n, vsl_w, vsr_i, vsr_l, vsr_r, vsr_k, vsr_n, vsr_w, and_self, and_true, true_and, and_false, false_and, or_self, or_true, true_or, or_false, false_or, not_true_eq_false, not_false_eq_true, ne_eq, eq_self, reduceCtorEq, Nat.reduceEqDiff, Nat.reduceAdd, Nat.reduceMul, Nat.reduceSub, Nat.reduceLT, Nat.reduceLeDiff, Nat.reduceDiv, Nat.add_zero, Nat.zero_add, Nat.not_lt_zero, Nat.zero_le, Nat.le_refl, Nat.lt_irrefl, l_eq_l, m_eq_l, l_eq_m, Int32.reduceLT, Int32.reduceLE, Int32.reduceAdd, Int32.reduceSub, Int32.reduceMul, b01_0, b01_1, b10_0, z_ne_o, o_ne_z, zn_add, zn_addl, zn_ladd, zn_mull, zn_subl, ix_zn, ix_l, ck_zn, ck_l, zn_le, zn_le_l, l_le_zn, zn_lt, zn_lt_l, l_lt_zn, zn_eq, zn_eq_l, l_eq_zn, zn_eq_m, m_eq_zn, m_le_zn, zn_lt_m, imin_zn, imax_zn, zn_le_m, h1.len, xs_vowelAt h1 hw hk, hv, g1]
  · obtain ⟨dd, hdd⟩ : ∃ d : Int32, d = if 0 < k ∧ C.lt w k = C.lt w (k - 1) then 1 else 0 := ⟨_, rfl⟩
    have ea : ask7 (((M1.si 20 31 (zn v)).si 20 35 (zn k)).si 20 37 dd) = akd C w st hr k := by
      refine ask7_akd ?_ ?_ ?_ ?_ ?_ ?_ ?_
      all_goals simp only [vsi_i, vsi_l, vsi_r, vsi_k, vsi_n, vsi_w, vsl_i, vsl_l, vsl_r, vsl_k, vsl_n, vsl_w, vsr_i, vsr_l, vsr_r, vsr_k, vsr_n, vsr_w, and_self, and_true, true_and, and_false, false_and, or_self, or_true, true_or, or_false, false_or, not_true_eq_false, not_false_eq_true, ne_eq, eq_self, reduceCtorEq, Nat.reduceEqDiff, Nat.reduceAdd, Nat.reduceMul, Nat.reduceSub, Nat.reduceLT, Nat.reduceLeDiff, Nat.reduceDiv, Nat.add_zero, Nat.zero_add, Nat.not_lt_zero, Nat.zero_le, Nat.le_refl, Nat.lt_irrefl, ↓reduceIte]
      · exact hv.symm
      · exact i1
      · exact i2
      · exact i3
      · exact i4
      · exact hdd
    refine ⟨_, ?_, (xs_tollExec h1 hw hk hv5 hv s dd hdd ea).trans (by rw [if_neg (by rw [hv, zn_eq_m (by omega)]; exact id)])⟩
    refine ⟨((((f.si (by unfold ca; omega)).si (by unfold ca; omega)).si (by unfold ca; omega)).si (by unfold ca; omega)).si (by unfold ca; omega), ?_, ?_, ?_, ?_, fun u hu => ?_⟩
    · simp only [vsi_i, vsi_l, vsi_r, vsi_k, vsi_n, vsi_w, vsl_i, vsl_l, vsl_r, vsl_k, vsl_n, vsl_w, vsr_i, vsr_l, vsr_r, vsr_k, vsr_n, vsr_w, and_self, and_true, true_and, and_false, false_and, or_self, or_true, true_or, or_false, false_or, not_true_eq_false, not_false_eq_true, ne_eq, eq_self, reduceCtorEq, Nat.reduceEqDiff, Nat.reduceAdd, Nat.reduceMul, Nat.reduceSub, Nat.reduceLT, Nat.reduceLeDiff, Nat.reduceDiv, Nat.add_zero, Nat.zero_add, Nat.not_lt_zero, Nat.zero_le, Nat.le_refl, Nat.lt_irrefl, ↓reduceIte]; exact i1
    · simp only [vsi_i, vsi_l, vsi_r, vsi_k, vsi_n, vsi_w, vsl_i, vsl_l, vsl_r, vsl_k, vsl_n, vsl_w, vsr_i, vsr_l, vsr_r, vsr_k, vsr_n, vsr_w, and_self, and_true, true_and, and_false, false_and, or_self, or_true, true_or, or_false, false_or, not_true_eq_false, not_false_eq_true, ne_eq, eq_self, reduceCtorEq, Nat.reduceEqDiff, Nat.reduceAdd, Nat.reduceMul, Nat.reduceSub, Nat.reduceLT, Nat.reduceLeDiff, Nat.reduceDiv, Nat.add_zero, Nat.zero_add, Nat.not_lt_zero, Nat.zero_le, Nat.le_refl, Nat.lt_irrefl, ↓reduceIte]; exact i2
    · simp only [vsi_i, vsi_l, vsi_r, vsi_k, vsi_n, vsi_w, vsl_i, vsl_l, vsl_r, vsl_k, vsl_n, vsl_w, vsr_i, vsr_l, vsr_r, vsr_k, vsr_n, vsr_w, and_self, and_true, true_and, and_false, false_and, or_self, or_true, true_or, or_false, false_or, not_true_eq_false, not_false_eq_true, ne_eq, eq_self, reduceCtorEq, Nat.reduceEqDiff, Nat.reduceAdd, Nat.reduceMul, Nat.reduceSub, Nat.reduceLT, Nat.reduceLeDiff, Nat.reduceDiv, Nat.add_zero, Nat.zero_add, Nat.not_lt_zero, Nat.zero_le, Nat.le_refl, Nat.lt_irrefl, ↓reduceIte]; exact i3
    · simp only [vsi_i, vsi_l, vsi_r, vsi_k, vsi_n, vsi_w, vsl_i, vsl_l, vsl_r, vsl_k, vsl_n, vsl_w, vsr_i, vsr_l, vsr_r, vsr_k, vsr_n, vsr_w, and_self, and_true, true_and, and_false, false_and, or_self, or_true, true_or, or_false, false_or, not_true_eq_false, not_false_eq_true, ne_eq, eq_self, reduceCtorEq, Nat.reduceEqDiff, Nat.reduceAdd, Nat.reduceMul, Nat.reduceSub, Nat.reduceLT, Nat.reduceLeDiff, Nat.reduceDiv, Nat.add_zero, Nat.zero_add, Nat.not_lt_zero, Nat.zero_le, Nat.le_refl, Nat.lt_irrefl, ↓reduceIte]
      rw [i4, nvb_s, if_neg (by rw [hv, zn_eq_m (by omega)]; exact id)]
      exact zn_addl _ 1
    · simp only [vsi_i, vsi_l, vsi_r, vsi_k, vsi_n, vsi_w, vsl_i, vsl_l, vsl_r, vsl_k, vsl_n, vsl_w, vsr_i, vsr_l, vsr_r, vsr_k, vsr_n, vsr_w, and_self, and_true, true_and, and_false, false_and, or_self, or_true, true_or, or_false, false_or, not_true_eq_false, not_false_eq_true, ne_eq, eq_self, reduceCtorEq, Nat.reduceEqDiff, Nat.reduceAdd, Nat.reduceMul, Nat.reduceSub, Nat.reduceLT, Nat.reduceLeDiff, Nat.reduceDiv, Nat.add_zero, Nat.zero_add, Nat.not_lt_zero, Nat.zero_le, Nat.le_refl, Nat.lt_irrefl, ↓reduceIte]
      rw [tvp_s, hv]
      by_cases hu2 : u = v
      · subst hu2
        rw [if_pos rfl, if_pos rfl, i5 u hu]
      · rw [if_neg hu2, if_neg (by rw [zn_eq (by omega) (by omega)]; omega)]
        exact i5 u hu
theorem xs_toll57 (h : CX C M) {w : Nat} (hw : w < C.nw) (st hr : Int32) {M2 : PM} (hI : tI C M w st hr 0 M2) : ∃ M', x_tollOf_L57 (zn w) FU 0 0 M2 = some (tol C w st hr, M') ∧ Fq ca M M' ∧ ∀ v, v < 5 → M'.i 50 v = tov C w st hr (zn v) := by
  have b1 := h.ok.nw10
  have b2 := h.ok.len6 w hw
  have := wlp (fun n k s M3 => x_tollOf_L57 (zn w) n s (zn k) M3) (C.len w) FU (FU_lt (by omega)) (fun j s => if vow (C.lt w j) = -1 then s else s + cst C w st hr j) 0 (fun k M3 => tI C M w st hr k M3) (fun o => ∃ M', o = some (tol C w st hr, M') ∧ Fq ca M M' ∧ ∀ v, v < 5 → M'.i 50 v = tov C w st hr (zn v)) (fun n k M3 hk hI => xs_tollStep h hw hk hI) (fun n M3 hI => ?_) M2 hI
  · exact this
  · have h3 := h.fa hI.1
    refine ⟨M3, ?_, hI.1, hI.2.2.2.2.2⟩
    simp (disch := omega) only [x_tollOf_L57, lt_u, jn_u, bd_s, rf_s, nl_s, nl_n, ↓reduceIte, ↓ckb24, ↓ckb256, ckb_T, ckb01, vsi_i, vsi_l, vsi_r, vsi_k, vsi_n, vsi_w, vsl_i, vsl_l, vsl_r, vsl_k, vsl_n, vsl_w, vsr_i, vsr_l, vsr_r, vsr_k, vsr_n, vsr_w, and_self, and_true, true_and, and_false, false_and, or_self, or_true, true_or, or_false, false_or, not_true_eq_false, not_false_eq_true, ne_eq, eq_self, reduceCtorEq, Nat.reduceEqDiff, Nat.reduceAdd, Nat.reduceMul, Nat.reduceSub, Nat.reduceLT, Nat.reduceLeDiff, Nat.reduceDiv, Nat.add_zero, Nat.zero_add, Nat.not_lt_zero, Nat.zero_le, Nat.le_refl, Nat.lt_irrefl, l_eq_l, m_eq_l, l_eq_m, Int32.reduceLT, Int32.reduceLE, Int32.reduceAdd, Int32.reduceSub, Int32.reduceMul, b01_0, b01_1, b10_0, z_ne_o, o_ne_z, zn_add, zn_addl, zn_ladd, zn_mull, zn_subl, ix_zn, ix_l, ck_zn, ck_l, zn_le, zn_le_l, l_le_zn, zn_lt, zn_lt_l, l_lt_zn, zn_eq, zn_eq_l, l_eq_zn, zn_eq_m, m_eq_zn, m_le_zn, zn_lt_m, imin_zn, imax_zn, zn_le_m, h3.len]
    rfl
/-- by each vowel nothing yet -/
theorem xs_toll34 {w : Nat} (st hr : Int32) (K : PM → Option (Int32 × PM)) {Ma : PM} (fa : Fq ca M Ma) (a1 : Ma.i 20 32 = st) (a2 : Ma.i 20 33 = hr - hr / 24 * 24) (a3 : Ma.i 20 34 = zn (C.len w)) (a4 : Ma.i 20 36 = 0) : ∃ M2, tI C M w st hr 0 M2 ∧ x_tollOf_L34 (zn w) 0 K FU 0 Ma = K M2 := by
  have := wlp (fun n k (s : Unit) M2 => x_tollOf_L34 (zn w) 0 K n (zn k) M2) 5 FU (FU_lt (by omega)) (fun _ s => s) () (fun k M2 => Fq ca M M2 ∧ M2.i 20 32 = st ∧ M2.i 20 33 = hr - hr / 24 * 24 ∧ M2.i 20 34 = zn (C.len w) ∧ M2.i 20 36 = 0 ∧ ∀ v, v < k → M2.i 50 v = 0) (fun o => ∃ M2, tI C M w st hr 0 M2 ∧ o = K M2) (fun n k M2 hk hI => ?_) (fun n M2 hI => ?_) Ma ⟨fa, a1, a2, a3, a4, fun v hv => absurd hv (by omega)⟩
  · exact this
  · obtain ⟨i0, i1, i2, i3, i4, i5⟩ := hI
    refine ⟨M2.si 50 k 0, ⟨i0.si (by unfold ca; omega), ?_, ?_, ?_, ?_, fun v hv => ?_⟩, ?_⟩
    · simp only [vsi_i, vsi_l, vsi_r, vsi_k, vsi_n, vsi_w, vsl_i, vsl_l, vsl_r, vsl_k, vsl_n, vsl_w, vsr_i, vsr_l, vsr_r, vsr_k, vsr_n, vsr_w, and_self, and_true, true_and, and_false, false_and, or_self, or_true, true_or, or_false, false_or, not_true_eq_false, not_false_eq_true, ne_eq, eq_self, reduceCtorEq, Nat.reduceEqDiff, Nat.reduceAdd, Nat.reduceMul, Nat.reduceSub, Nat.reduceLT, Nat.reduceLeDiff, Nat.reduceDiv, Nat.add_zero, Nat.zero_add, Nat.not_lt_zero, Nat.zero_le, Nat.le_refl, Nat.lt_irrefl, ↓reduceIte]; exact i1
    · simp only [vsi_i, vsi_l, vsi_r, vsi_k, vsi_n, vsi_w, vsl_i, vsl_l, vsl_r, vsl_k, vsl_n, vsl_w, vsr_i, vsr_l, vsr_r, vsr_k, vsr_n, vsr_w, and_self, and_true, true_and, and_false, false_and, or_self, or_true, true_or, or_false, false_or, not_true_eq_false, not_false_eq_true, ne_eq, eq_self, reduceCtorEq, Nat.reduceEqDiff, Nat.reduceAdd, Nat.reduceMul, Nat.reduceSub, Nat.reduceLT, Nat.reduceLeDiff, Nat.reduceDiv, Nat.add_zero, Nat.zero_add, Nat.not_lt_zero, Nat.zero_le, Nat.le_refl, Nat.lt_irrefl, ↓reduceIte]; exact i2
    · simp only [vsi_i, vsi_l, vsi_r, vsi_k, vsi_n, vsi_w, vsl_i, vsl_l, vsl_r, vsl_k, vsl_n, vsl_w, vsr_i, vsr_l, vsr_r, vsr_k, vsr_n, vsr_w, and_self, and_true, true_and, and_false, false_and, or_self, or_true, true_or, or_false, false_or, not_true_eq_false, not_false_eq_true, ne_eq, eq_self, reduceCtorEq, Nat.reduceEqDiff, Nat.reduceAdd, Nat.reduceMul, Nat.reduceSub, Nat.reduceLT, Nat.reduceLeDiff, Nat.reduceDiv, Nat.add_zero, Nat.zero_add, Nat.not_lt_zero, Nat.zero_le, Nat.le_refl, Nat.lt_irrefl, ↓reduceIte]; exact i3
    · simp only [vsi_i, vsi_l, vsi_r, vsi_k, vsi_n, vsi_w, vsl_i, vsl_l, vsl_r, vsl_k, vsl_n, vsl_w, vsr_i, vsr_l, vsr_r, vsr_k, vsr_n, vsr_w, and_self, and_true, true_and, and_false, false_and, or_self, or_true, true_or, or_false, false_or, not_true_eq_false, not_false_eq_true, ne_eq, eq_self, reduceCtorEq, Nat.reduceEqDiff, Nat.reduceAdd, Nat.reduceMul, Nat.reduceSub, Nat.reduceLT, Nat.reduceLeDiff, Nat.reduceDiv, Nat.add_zero, Nat.zero_add, Nat.not_lt_zero, Nat.zero_le, Nat.le_refl, Nat.lt_irrefl, ↓reduceIte]; exact i4
    · simp only [vsi_i, vsi_l, vsi_r, vsi_k, vsi_n, vsi_w, vsl_i, vsl_l, vsl_r, vsl_k, vsl_n, vsl_w, vsr_i, vsr_l, vsr_r, vsr_k, vsr_n, vsr_w, and_self, and_true, true_and, and_false, false_and, or_self, or_true, true_or, or_false, false_or, not_true_eq_false, not_false_eq_true, ne_eq, eq_self, reduceCtorEq, Nat.reduceEqDiff, Nat.reduceAdd, Nat.reduceMul, Nat.reduceSub, Nat.reduceLT, Nat.reduceLeDiff, Nat.reduceDiv, Nat.add_zero, Nat.zero_add, Nat.not_lt_zero, Nat.zero_le, Nat.le_refl, Nat.lt_irrefl]
      by_cases e : v = k
      · rw [if_pos e]
      · rw [if_neg e]; exact i5 v (by omega)
    · have g : ¬ 5 ≤ k := by omega
      simp (disch := omega) only [x_tollOf_L34, lt_u, jn_u, bd_s, rf_s, nl_s, nl_n, ↓reduceIte, ↓ckb24, ↓ckb256, ckb_T, ckb01, vsi_i, vsi_l, vsi_r, vsi_k, vsi_n, vsi_w, vsl_i, vsl_l, vsl_r, vsl_k, vsl_n, vsl_w, vsr_i, vsr_l, vsr_r, vsr_k, vsr_n, vsr_w, and_self, and_true, true_and, and_false, false_and, or_self, or_true, true_or, or_false, false_or, not_true_eq_false, not_false_eq_true, ne_eq, eq_self, reduceCtorEq, Nat.reduceEqDiff, Nat.reduceAdd, Nat.reduceMul, Nat.reduceSub, Nat.reduceLT, Nat.reduceLeDiff, Nat.reduceDiv, Nat.add_zero, Nat.zero_add, Nat.not_lt_zero, Nat.zero_le, Nat.le_refl, Nat.lt_irrefl, l_eq_l, m_eq_l, l_eq_m, Int32.reduceLT, Int32.reduceLE, Int32.reduceAdd, Int32.reduceSub, Int32.reduceMul, b01_0, b01_1, b10_0, z_ne_o, o_ne_z, zn_add, zn_addl, zn_ladd, zn_mull, zn_subl, ix_zn, ix_l, ck_zn, ck_l, zn_le, zn_le_l, l_le_zn, zn_lt, zn_lt_l, l_lt_zn, zn_eq, zn_eq_l, l_eq_zn, zn_eq_m, m_eq_zn, m_le_zn, zn_lt_m, imin_zn, imax_zn, zn_le_m, g]
  · obtain ⟨i0, i1, i2, i3, i4, i5⟩ := hI
    refine ⟨M2, ⟨i0, i1, i2, i3, i4, fun v hv => i5 v hv⟩, ?_⟩
    simp (disch := omega) only [x_tollOf_L34, lt_u, jn_u, bd_s, rf_s, nl_s, nl_n, ↓reduceIte, ↓ckb24, ↓ckb256, ckb_T, ckb01, vsi_i, vsi_l, vsi_r, vsi_k, vsi_n, vsi_w, vsl_i, vsl_l, vsl_r, vsl_k, vsl_n, vsl_w, vsr_i, vsr_l, vsr_r, vsr_k, vsr_n, vsr_w, and_self, and_true, true_and, and_false, false_and, or_self, or_true, true_or, or_false, false_or, not_true_eq_false, not_false_eq_true, ne_eq, eq_self, reduceCtorEq, Nat.reduceEqDiff, Nat.reduceAdd, Nat.reduceMul, Nat.reduceSub, Nat.reduceLT, Nat.reduceLeDiff, Nat.reduceDiv, Nat.add_zero, Nat.zero_add, Nat.not_lt_zero, Nat.zero_le, Nat.le_refl, Nat.lt_irrefl, l_eq_l, m_eq_l, l_eq_m, Int32.reduceLT, Int32.reduceLE, Int32.reduceAdd, Int32.reduceSub, Int32.reduceMul, b01_0, b01_1, b10_0, z_ne_o, o_ne_z, zn_add, zn_addl, zn_ladd, zn_mull, zn_subl, ix_zn, ix_l, ck_zn, ck_l, zn_le, zn_le_l, l_le_zn, zn_lt, zn_lt_l, l_lt_zn, zn_eq, zn_eq_l, l_eq_zn, zn_eq_m, m_eq_zn, m_le_zn, zn_lt_m, imin_zn, imax_zn, zn_le_m]
theorem xs_tollKey (h : CX C M) {w : Nat} (hw : w < C.nw) (st hr : Int32) {Ma : PM} (hMa : Ma = ((((M.si 20 32 st).si 20 33 (hr - hr / 24 * 24)).si 20 34 (zn (C.len w))).si 20 36 0)) (K : PM → Option (Int32 × PM)) : (ckb (¬ (24 : Int32) = 0) <| lt ((M.si 20 32 st).si 20 33 (hr - hr / 24 * 24)) fun M2 => ck (zn w) 10 <| lt (M2.si 20 34 (M2.i 32 (ix (zn w)))) fun M3 => lt (M3.si 20 36 0) K) = K Ma := by
  have b1 := h.ok.nw10
  have hl := h.len w hw
  rw [ckb_t n24_z]
  simp (disch := omega) only [lt_u, ck_zn, ix_zn, vsi_i, vsi_l, vsi_r, vsi_k, vsi_n, vsi_w, vsl_i, vsl_l, vsl_r, vsl_k, vsl_n, vsl_w, vsr_i, vsr_l, vsr_r, vsr_k, vsr_n, vsr_w, and_self, and_true, true_and, and_false, false_and, or_self, or_true, true_or, or_false, false_or, not_true_eq_false, not_false_eq_true, ne_eq, eq_self, reduceCtorEq, Nat.reduceEqDiff, Nat.reduceAdd, Nat.reduceMul, Nat.reduceSub, Nat.reduceLT, Nat.reduceLeDiff, Nat.reduceDiv, Nat.add_zero, Nat.zero_add, Nat.not_lt_zero, Nat.zero_le, Nat.le_refl, Nat.lt_irrefl, hl, ↓reduceIte]
  rw [← hMa]
theorem xs_tollUn (w : Nat) (st hr : Int32) : x_tollOf (zn w) st hr M = (ckb (¬ (24 : Int32) = 0) <| lt ((M.si 20 32 st).si 20 33 (hr - hr / 24 * 24)) fun M2 => ck (zn w) 10 <| lt (M2.si 20 34 (M2.i 32 (ix (zn w)))) fun M3 => lt (M3.si 20 36 0) fun M4 => x_tollOf_L34 (zn w) 0 (fun M7 => x_tollOf_L57 (zn w) FU 0 0 M7) FU 0 M4) := by
  unfold x_tollOf
  rw [lt]
theorem xs_tollOf (h : CX C M) {w : Nat} (hw : w < C.nw) (st hr : Int32) : ∃ M', x_tollOf (zn w) st hr M = some (tol C w st hr, M') ∧ Fq ca M M' ∧ ∀ v, v < 5 → M'.i 50 v = tov C w st hr (zn v) := by
  obtain ⟨Ma, hMa⟩ : ∃ Ma, Ma = ((((M.si 20 32 st).si 20 33 (hr - hr / 24 * 24)).si 20 34 (zn (C.len w))).si 20 36 0) := ⟨_, rfl⟩
  have fa : Fq ca M Ma := by
    rw [hMa]
    exact (((Fq.rf.si (by unfold ca; omega)).si (by unfold ca; omega)).si (by unfold ca; omega)).si (by unfold ca; omega)
  obtain ⟨M2, hI, e2⟩ := xs_toll34 (C := C) (w := w) st hr (fun M7 => x_tollOf_L57 (zn w) FU 0 0 M7) fa (by rw [hMa]; simp only [vsi_i, vsi_l, vsi_r, vsi_k, vsi_n, vsi_w, vsl_i, vsl_l, vsl_r, vsl_k, vsl_n, vsl_w, vsr_i, vsr_l, vsr_r, vsr_k, vsr_n, vsr_w, and_self, and_true, true_and, and_false, false_and, or_self, or_true, true_or, or_false, false_or, not_true_eq_false, not_false_eq_true, ne_eq, eq_self, reduceCtorEq, Nat.reduceEqDiff, Nat.reduceAdd, Nat.reduceMul, Nat.reduceSub, Nat.reduceLT, Nat.reduceLeDiff, Nat.reduceDiv, Nat.add_zero, Nat.zero_add, Nat.not_lt_zero, Nat.zero_le, Nat.le_refl, Nat.lt_irrefl, ↓reduceIte]) (by rw [hMa]; simp only [vsi_i, vsi_l, vsi_r, vsi_k, vsi_n, vsi_w, vsl_i, vsl_l, vsl_r, vsl_k, vsl_n, vsl_w, vsr_i, vsr_l, vsr_r, vsr_k, vsr_n, vsr_w, and_self, and_true, true_and, and_false, false_and, or_self, or_true, true_or, or_false, false_or, not_true_eq_false, not_false_eq_true, ne_eq, eq_self, reduceCtorEq, Nat.reduceEqDiff, Nat.reduceAdd, Nat.reduceMul, Nat.reduceSub, Nat.reduceLT, Nat.reduceLeDiff, Nat.reduceDiv, Nat.add_zero, Nat.zero_add, Nat.not_lt_zero, Nat.zero_le, Nat.le_refl, Nat.lt_irrefl, ↓reduceIte]) (by rw [hMa]; simp only [vsi_i, vsi_l, vsi_r, vsi_k, vsi_n, vsi_w, vsl_i, vsl_l, vsl_r, vsl_k, vsl_n, vsl_w, vsr_i, vsr_l, vsr_r, vsr_k, vsr_n, vsr_w, and_self, and_true, true_and, and_false, false_and, or_self, or_true, true_or, or_false, false_or, not_true_eq_false, not_false_eq_true, ne_eq, eq_self, reduceCtorEq, Nat.reduceEqDiff, Nat.reduceAdd, Nat.reduceMul, Nat.reduceSub, Nat.reduceLT, Nat.reduceLeDiff, Nat.reduceDiv, Nat.add_zero, Nat.zero_add, Nat.not_lt_zero, Nat.zero_le, Nat.le_refl, Nat.lt_irrefl, ↓reduceIte]) (by rw [hMa]; simp only [vsi_i, vsi_l, vsi_r, vsi_k, vsi_n, vsi_w, vsl_i, vsl_l, vsl_r, vsl_k, vsl_n, vsl_w, vsr_i, vsr_l, vsr_r, vsr_k, vsr_n, vsr_w, and_self, and_true, true_and, and_false, false_and, or_self, or_true, true_or, or_false, false_or, not_true_eq_false, not_false_eq_true, ne_eq, eq_self, reduceCtorEq, Nat.reduceEqDiff, Nat.reduceAdd, Nat.reduceMul, Nat.reduceSub, Nat.reduceLT, Nat.reduceLeDiff, Nat.reduceDiv, Nat.add_zero, Nat.zero_add, Nat.not_lt_zero, Nat.zero_le, Nat.le_refl, Nat.lt_irrefl, ↓reduceIte])
  obtain ⟨M', e3, f3⟩ := xs_toll57 h hw st hr hI
  refine ⟨M', ?_, f3⟩
  rw [xs_tollUn, xs_tollKey h hw st hr hMa, e2]
  exact e3
theorem xs_tollNow (h : CX C M) {w : Nat} (hw : w < C.nw) (st : Int32) : ∃ M', x_tollNow (zn w) st M = some (tol C w st (M.i 21 4), M') ∧ Fq ca M M' := by
  obtain ⟨M', e, f, -⟩ := xs_tollOf h hw st (M.i 21 4)
  refine ⟨M', ?_, f⟩
  unfold x_tollNow
  rw [e]
  rfl
/-- the hour stays through a sum's working -/
theorem hr_ca {M' : PM} (f : Fq ca M M') : M'.i 21 4 = M.i 21 4 := f.i 21 4 (by unfold ca; omega)
theorem xs_cheapestFor (h : CX C M) (m st more : Int32) : ∃ M', x_cheapestFor m st more M = some (chw C (M.i 21 4) m st more, M') ∧ Fq ca M M' := by
  have b1 := h.ok.nw10
  unfold x_cheapestFor
  refine wlp (fun n k s M2 => x_cheapestFor_L11 m st more n s.1 s.2 (zn k) M2) C.nw FU (FU_lt (by omega)) (fun w s => (if s.2 ≤ chf C (M.i 21 4) m st more w then s.1 else zn w, imin s.2 (chf C (M.i 21 4) m st more w))) (-1, 1000000000) (fun _ M2 => Fq ca M M2) (fun o => ∃ M', o = some (chw C (M.i 21 4) m st more, M') ∧ Fq ca M M') (fun n k M2 hk f => ?_) (fun n M2 f => ?_) M Fq.rf
  · have h2 := h.fa f
    have g : ¬ C.nw ≤ k := by omega
    obtain ⟨M3, e3, f3⟩ := xs_tollNow h2 hk st
    rw [hr_ca f] at e3
    have h3 := h2.fa f3
    by_cases hm : mns C k m
    · refine ⟨M3, f.tr f3, ?_⟩
      have ec : chf C (M.i 21 4) m st more k = tol C k st (M.i 21 4) + more * nvo C k := if_pos hm
      simp (disch := omega) only [x_cheapestFor_L11, lt_u, jn_u, bd_s, rf_s, nl_s, nl_n, ↓reduceIte, ↓ckb24, ↓ckb256, ckb_T, ckb01, vsi_i, vsi_l, vsi_r, vsi_k, vsi_n, vsi_w, vsl_i, vsl_l, vsl_r, vsl_k, vsl_n, vsl_w, vsr_i, vsr_l, vsr_r, vsr_k, vsr_n, vsr_w, and_self, and_true, true_and, and_false, false_and, or_self, or_true, true_or, or_false, false_or, not_true_eq_false, not_false_eq_true, ne_eq, eq_self, reduceCtorEq, Nat.reduceEqDiff, Nat.reduceAdd, Nat.reduceMul, Nat.reduceSub, Nat.reduceLT, Nat.reduceLeDiff, Nat.reduceDiv, Nat.add_zero, Nat.zero_add, Nat.not_lt_zero, Nat.zero_le, Nat.le_refl, Nat.lt_irrefl, l_eq_l, m_eq_l, l_eq_m, Int32.reduceLT, Int32.reduceLE, Int32.reduceAdd, Int32.reduceSub, Int32.reduceMul, b01_0, b01_1, b10_0, z_ne_o, o_ne_z, zn_add, zn_addl, zn_ladd, zn_mull, zn_subl, ix_zn, ix_l, ck_zn, ck_l, zn_le, zn_le_l, l_le_zn, zn_lt, zn_lt_l, l_lt_zn, zn_eq, zn_eq_l, l_eq_zn, zn_eq_m, m_eq_zn, m_le_zn, zn_lt_m, imin_zn, imax_zn, zn_le_m, h2.nw, xs_means h2 hk, hm, e3, xs_vowelsOf h3 hk, ec, g]
    · refine ⟨M2, f, ?_⟩
      have ec : chf C (M.i 21 4) m st more k = 1000000000 := if_neg hm
      simp (disch := omega) only [x_cheapestFor_L11, lt_u, jn_u, bd_s, rf_s, nl_s, nl_n, ↓reduceIte, ↓ckb24, ↓ckb256, ckb_T, ckb01, vsi_i, vsi_l, vsi_r, vsi_k, vsi_n, vsi_w, vsl_i, vsl_l, vsl_r, vsl_k, vsl_n, vsl_w, vsr_i, vsr_l, vsr_r, vsr_k, vsr_n, vsr_w, and_self, and_true, true_and, and_false, false_and, or_self, or_true, true_or, or_false, false_or, not_true_eq_false, not_false_eq_true, ne_eq, eq_self, reduceCtorEq, Nat.reduceEqDiff, Nat.reduceAdd, Nat.reduceMul, Nat.reduceSub, Nat.reduceLT, Nat.reduceLeDiff, Nat.reduceDiv, Nat.add_zero, Nat.zero_add, Nat.not_lt_zero, Nat.zero_le, Nat.le_refl, Nat.lt_irrefl, l_eq_l, m_eq_l, l_eq_m, Int32.reduceLT, Int32.reduceLE, Int32.reduceAdd, Int32.reduceSub, Int32.reduceMul, b01_0, b01_1, b10_0, z_ne_o, o_ne_z, zn_add, zn_addl, zn_ladd, zn_mull, zn_subl, ix_zn, ix_l, ck_zn, ck_l, zn_le, zn_le_l, l_le_zn, zn_lt, zn_lt_l, l_lt_zn, zn_eq, zn_eq_l, l_eq_zn, zn_eq_m, m_eq_zn, m_le_zn, zn_lt_m, imin_zn, imax_zn, zn_le_m, h2.nw, xs_means h2 hk, hm, ec, g]
  · have h2 := h.fa f
    refine ⟨M2, ?_, f⟩
    simp (disch := omega) only [x_cheapestFor_L11, lt_u, jn_u, bd_s, rf_s, nl_s, nl_n, ↓reduceIte, ↓ckb24, ↓ckb256, ckb_T, ckb01, vsi_i, vsi_l, vsi_r, vsi_k, vsi_n, vsi_w, vsl_i, vsl_l, vsl_r, vsl_k, vsl_n, vsl_w, vsr_i, vsr_l, vsr_r, vsr_k, vsr_n, vsr_w, and_self, and_true, true_and, and_false, false_and, or_self, or_true, true_or, or_false, false_or, not_true_eq_false, not_false_eq_true, ne_eq, eq_self, reduceCtorEq, Nat.reduceEqDiff, Nat.reduceAdd, Nat.reduceMul, Nat.reduceSub, Nat.reduceLT, Nat.reduceLeDiff, Nat.reduceDiv, Nat.add_zero, Nat.zero_add, Nat.not_lt_zero, Nat.zero_le, Nat.le_refl, Nat.lt_irrefl, l_eq_l, m_eq_l, l_eq_m, Int32.reduceLT, Int32.reduceLE, Int32.reduceAdd, Int32.reduceSub, Int32.reduceMul, b01_0, b01_1, b10_0, z_ne_o, o_ne_z, zn_add, zn_addl, zn_ladd, zn_mull, zn_subl, ix_zn, ix_l, ck_zn, ck_l, zn_le, zn_le_l, l_le_zn, zn_lt, zn_lt_l, l_lt_zn, zn_eq, zn_eq_l, l_eq_zn, zn_eq_m, m_eq_zn, m_le_zn, zn_lt_m, imin_zn, imax_zn, zn_le_m, h2.nw]
    rfl
end
