set_option maxRecDepth 100000
/-! THE REFERENCE GOES THROUGH A RULE -/
/-- the askings as the reference has them -/
def qv (M : PM) : Nat → Int32 := fun i => if i < 7 then (if M.i 72 25 = 0 then 0 else M.i 85 i) else 0
def mR (r : Nat × Option Dn) (M : PM) (o : Option (Int32 × PM)) : Prop := match r.2 with
  | some D => o = some (D (qv M), Ma M r.1)
  | none => ∃ v, o = some (v, Mw M r.1)
theorem mR_s {q : Nat} {D : Dn} {M : PM} {o : Option (Int32 × PM)} (h : mR (q, some D) M o) : o = some (D (qv M), Ma M q) := h
theorem mR_n {q : Nat} {M : PM} {o : Option (Int32 × PM)} (h : mR (q, none) M o) : ∃ v, o = some (v, Mw M q) := h
section
variable {a e : Nat} {b : Nat → Nat} {M : PM}
theorem isop2 (c : Nat) : isop 2 c = (c == 42 || c == 47) := rfl
theorem isop1 (c : Nat) : isop 1 c = (c == 43 || c == 45) := rfl
theorem isop0 (c : Nat) : isop 0 c = (c == 60 || c == 62 || c == 61) := rfl
/-- products: behind one thing -/
theorem ms_prodLoop (h : RC a b e M) (he : e ≤ 80) {nest : Int32} {fh fp fs ft : Int32 → PM → Option (Int32 × PM)} {sub : Nat → Nat × Option Dn} {p0 : Nat} (hge : ∀ p, p ≤ (sub p).1 ∧ ((sub p).1 ≤ e ∨ (sub p).1 = p))
    (hs : ∀ p, p0 < p → p ≤ e → mR (sub p) M (ft nest (Ma M p))) : ∀ f p D m, p0 ≤ p → p ≤ e → e - p < f → e - p + 1 < m → mR (plp sub b e 2 f p D) M (b_m_product_L6 nest fh fp fs ft m (D (qv M)) (Ma M p)) := by
  intro f
  induction f with
  | zero => intro p D m h0 h1 h2; omega
  | succ f ih =>
    intro p D m h0 h1 h2 h3
    obtain ⟨n, rfl⟩ : ∃ n, m = n + 1 := ⟨m - 1, by omega⟩
    have t2 := h.2.2.2.2.2.1 p
    unfold plp
    by_cases q : p < e ∧ isop 2 (b p) = true
    · rw [if_pos q]
      have hsp := hs (p + 1) (by omega) (by omega)
      have hg := hge (p + 1)
      have q4 : hv b e p = zn (b p) := if_pos q.1
      have q1 := q.2
      rw [isop2, Bool.or_eq_true, beq_iff_eq, beq_iff_eq] at q1
      -- the loop's round up to the thing
      have key : ∀ (K : Int32 → PM → Option (Int32 × PM)), True := fun _ => trivial
      rcases hr : sub (p + 1) with ⟨r1, r2⟩
      rw [hr] at hsp hg
      cases r2 with
      | none =>
        obtain ⟨v, hv1⟩ := mR_n hsp
        have hend : ∀ x, b_m_product_L6 nest fh fp fs ft n x (Mw M r1) = some (x, Mw M r1) := by
          intro x
          obtain ⟨n', rfl⟩ : ∃ n', n = n' + 1 := ⟨n - 1, by omega⟩
          have hg2 : r1 ≤ 1000 := by
            have := hg.2
            simp only at this
            omega
          simp only [b_m_product_L6, ms_fineW M hg2, bd_s, ↓reduceIte]
        show ∃ v, _ = some (v, Mw M r1)
        rcases q1 with q1 | q1
        · refine ⟨D (qv M) * v, ?_⟩
          rw [q1] at q4
          have q4' : hv b e p = 42 := q4
          simp (disch := omega) only [b_m_product_L6, lt_u, jn_u, bd_s, rf_s, nl_s, nl_n, ↓reduceIte, ↓ckb24, ↓ckb256, ckb_T, ckb01, vsi_i, vsi_l, vsi_r, vsi_k, vsi_n, vsi_w, vsl_i, vsl_l, vsl_r, vsl_k, vsl_n, vsl_w, vsr_i, vsr_l, vsr_r, vsr_k, vsr_n, vsr_w, and_self, and_true, true_and, and_false, false_and, or_self, or_true, true_or, or_false, false_or, not_true_eq_false, not_false_eq_true, ne_eq, eq_self, reduceCtorEq, Nat.reduceEqDiff, Nat.reduceAdd, Nat.reduceMul, Nat.reduceSub, Nat.reduceLT, Nat.reduceLeDiff, Nat.reduceDiv, Nat.add_zero, Nat.zero_add, Nat.not_lt_zero, Nat.zero_le, Nat.le_refl, Nat.lt_irrefl, l_eq_l, m_eq_l, l_eq_m, Int32.reduceLT, Int32.reduceLE, Int32.reduceAdd, Int32.reduceSub, Int32.reduceMul, b01_0, b01_1, b10_0, z_ne_o, o_ne_z, zn_add, zn_addl, zn_ladd, zn_mull, zn_subl, ix_zn, ix_l, ck_zn, ck_l, zn_le, zn_le_l, l_le_zn, zn_lt, zn_lt_l, l_lt_zn, zn_eq, zn_eq_l, l_eq_zn, zn_eq_m, m_eq_zn, m_le_zn, zn_lt_m, imin_zn, imax_zn, zn_le_m, ms_fine h p, ms_here h (show p ≤ 1000 by omega), q4', si_si, hv1, hend]
        · by_cases v0 : v = 0
          · refine ⟨0, ?_⟩
            rw [q1] at q4
            have q4' : hv b e p = 47 := q4
            simp (disch := omega) only [b_m_product_L6, lt_u, jn_u, bd_s, rf_s, nl_s, nl_n, ↓reduceIte, ↓ckb24, ↓ckb256, ckb_T, ckb01, vsi_i, vsi_l, vsi_r, vsi_k, vsi_n, vsi_w, vsl_i, vsl_l, vsl_r, vsl_k, vsl_n, vsl_w, vsr_i, vsr_l, vsr_r, vsr_k, vsr_n, vsr_w, and_self, and_true, true_and, and_false, false_and, or_self, or_true, true_or, or_false, false_or, not_true_eq_false, not_false_eq_true, ne_eq, eq_self, reduceCtorEq, Nat.reduceEqDiff, Nat.reduceAdd, Nat.reduceMul, Nat.reduceSub, Nat.reduceLT, Nat.reduceLeDiff, Nat.reduceDiv, Nat.add_zero, Nat.zero_add, Nat.not_lt_zero, Nat.zero_le, Nat.le_refl, Nat.lt_irrefl, l_eq_l, m_eq_l, l_eq_m, Int32.reduceLT, Int32.reduceLE, Int32.reduceAdd, Int32.reduceSub, Int32.reduceMul, b01_0, b01_1, b10_0, z_ne_o, o_ne_z, zn_add, zn_addl, zn_ladd, zn_mull, zn_subl, ix_zn, ix_l, ck_zn, ck_l, zn_le, zn_le_l, l_le_zn, zn_lt, zn_lt_l, l_lt_zn, zn_eq, zn_eq_l, l_eq_zn, zn_eq_m, m_eq_zn, m_le_zn, zn_lt_m, imin_zn, imax_zn, zn_le_m, ms_fine h p, ms_here h (show p ≤ 1000 by omega), q4', si_si, hv1, hend, v0]
          · refine ⟨D (qv M) / v, ?_⟩
            rw [q1] at q4
            have q4' : hv b e p = 47 := q4
            simp (disch := omega) only [b_m_product_L6, lt_u, jn_u, bd_s, rf_s, nl_s, nl_n, ↓reduceIte, ↓ckb24, ↓ckb256, ckb_T, ckb01, vsi_i, vsi_l, vsi_r, vsi_k, vsi_n, vsi_w, vsl_i, vsl_l, vsl_r, vsl_k, vsl_n, vsl_w, vsr_i, vsr_l, vsr_r, vsr_k, vsr_n, vsr_w, and_self, and_true, true_and, and_false, false_and, or_self, or_true, true_or, or_false, false_or, not_true_eq_false, not_false_eq_true, ne_eq, eq_self, reduceCtorEq, Nat.reduceEqDiff, Nat.reduceAdd, Nat.reduceMul, Nat.reduceSub, Nat.reduceLT, Nat.reduceLeDiff, Nat.reduceDiv, Nat.add_zero, Nat.zero_add, Nat.not_lt_zero, Nat.zero_le, Nat.le_refl, Nat.lt_irrefl, l_eq_l, m_eq_l, l_eq_m, Int32.reduceLT, Int32.reduceLE, Int32.reduceAdd, Int32.reduceSub, Int32.reduceMul, b01_0, b01_1, b10_0, z_ne_o, o_ne_z, zn_add, zn_addl, zn_ladd, zn_mull, zn_subl, ix_zn, ix_l, ck_zn, ck_l, zn_le, zn_le_l, l_le_zn, zn_lt, zn_lt_l, l_lt_zn, zn_eq, zn_eq_l, l_eq_zn, zn_eq_m, m_eq_zn, m_le_zn, zn_lt_m, imin_zn, imax_zn, zn_le_m, ms_fine h p, ms_here h (show p ≤ 1000 by omega), q4', si_si, hv1, hend, v0]
      | some E =>
        have hv1 := mR_s hsp
        show mR (plp sub b e 2 f r1 (fun a => cmb (zn (b p)) (D a) (E a))) M _
        have hg2 : r1 ≤ e := by
          have := hg.2
          simp only at this
          omega
        have hg1 : p + 1 ≤ r1 := hg.1
        have hi := ih r1 (fun a => cmb (zn (b p)) (D a) (E a)) n (by omega) hg2 (by omega) (by omega)
        rcases q1 with q1 | q1
        · rw [q1] at q4 hi ⊢
          have q4' : hv b e p = 42 := q4
          have c4 : cmb (zn 42) (D (qv M)) (E (qv M)) = D (qv M) * E (qv M) := rfl
          rw [c4] at hi
          simp (disch := omega) only [b_m_product_L6, lt_u, jn_u, bd_s, rf_s, nl_s, nl_n, ↓reduceIte, ↓ckb24, ↓ckb256, ckb_T, ckb01, vsi_i, vsi_l, vsi_r, vsi_k, vsi_n, vsi_w, vsl_i, vsl_l, vsl_r, vsl_k, vsl_n, vsl_w, vsr_i, vsr_l, vsr_r, vsr_k, vsr_n, vsr_w, and_self, and_true, true_and, and_false, false_and, or_self, or_true, true_or, or_false, false_or, not_true_eq_false, not_false_eq_true, ne_eq, eq_self, reduceCtorEq, Nat.reduceEqDiff, Nat.reduceAdd, Nat.reduceMul, Nat.reduceSub, Nat.reduceLT, Nat.reduceLeDiff, Nat.reduceDiv, Nat.add_zero, Nat.zero_add, Nat.not_lt_zero, Nat.zero_le, Nat.le_refl, Nat.lt_irrefl, l_eq_l, m_eq_l, l_eq_m, Int32.reduceLT, Int32.reduceLE, Int32.reduceAdd, Int32.reduceSub, Int32.reduceMul, b01_0, b01_1, b10_0, z_ne_o, o_ne_z, zn_add, zn_addl, zn_ladd, zn_mull, zn_subl, ix_zn, ix_l, ck_zn, ck_l, zn_le, zn_le_l, l_le_zn, zn_lt, zn_lt_l, l_lt_zn, zn_eq, zn_eq_l, l_eq_zn, zn_eq_m, m_eq_zn, m_le_zn, zn_lt_m, imin_zn, imax_zn, zn_le_m, ms_fine h p, ms_here h (show p ≤ 1000 by omega), q4', si_si, hv1]
          exact hi
        · rw [q1] at q4 hi ⊢
          have q4' : hv b e p = 47 := q4
          have c4 : cmb (zn 47) (D (qv M)) (E (qv M)) = if E (qv M) = 0 then 0 else D (qv M) / E (qv M) := rfl
          rw [c4] at hi
          by_cases v0 : E (qv M) = 0
          · rw [if_pos v0] at hi
            simp (disch := omega) only [b_m_product_L6, lt_u, jn_u, bd_s, rf_s, nl_s, nl_n, ↓reduceIte, ↓ckb24, ↓ckb256, ckb_T, ckb01, vsi_i, vsi_l, vsi_r, vsi_k, vsi_n, vsi_w, vsl_i, vsl_l, vsl_r, vsl_k, vsl_n, vsl_w, vsr_i, vsr_l, vsr_r, vsr_k, vsr_n, vsr_w, and_self, and_true, true_and, and_false, false_and, or_self, or_true, true_or, or_false, false_or, not_true_eq_false, not_false_eq_true, ne_eq, eq_self, reduceCtorEq, Nat.reduceEqDiff, Nat.reduceAdd, Nat.reduceMul, Nat.reduceSub, Nat.reduceLT, Nat.reduceLeDiff, Nat.reduceDiv, Nat.add_zero, Nat.zero_add, Nat.not_lt_zero, Nat.zero_le, Nat.le_refl, Nat.lt_irrefl, l_eq_l, m_eq_l, l_eq_m, Int32.reduceLT, Int32.reduceLE, Int32.reduceAdd, Int32.reduceSub, Int32.reduceMul, b01_0, b01_1, b10_0, z_ne_o, o_ne_z, zn_add, zn_addl, zn_ladd, zn_mull, zn_subl, ix_zn, ix_l, ck_zn, ck_l, zn_le, zn_le_l, l_le_zn, zn_lt, zn_lt_l, l_lt_zn, zn_eq, zn_eq_l, l_eq_zn, zn_eq_m, m_eq_zn, m_le_zn, zn_lt_m, imin_zn, imax_zn, zn_le_m, ms_fine h p, ms_here h (show p ≤ 1000 by omega), q4', si_si, hv1, v0]
            exact hi
          · rw [if_neg v0] at hi
            simp (disch := omega) only [b_m_product_L6, lt_u, jn_u, bd_s, rf_s, nl_s, nl_n, ↓reduceIte, ↓ckb24, ↓ckb256, ckb_T, ckb01, vsi_i, vsi_l, vsi_r, vsi_k, vsi_n, vsi_w, vsl_i, vsl_l, vsl_r, vsl_k, vsl_n, vsl_w, vsr_i, vsr_l, vsr_r, vsr_k, vsr_n, vsr_w, and_self, and_true, true_and, and_false, false_and, or_self, or_true, true_or, or_false, false_or, not_true_eq_false, not_false_eq_true, ne_eq, eq_self, reduceCtorEq, Nat.reduceEqDiff, Nat.reduceAdd, Nat.reduceMul, Nat.reduceSub, Nat.reduceLT, Nat.reduceLeDiff, Nat.reduceDiv, Nat.add_zero, Nat.zero_add, Nat.not_lt_zero, Nat.zero_le, Nat.le_refl, Nat.lt_irrefl, l_eq_l, m_eq_l, l_eq_m, Int32.reduceLT, Int32.reduceLE, Int32.reduceAdd, Int32.reduceSub, Int32.reduceMul, b01_0, b01_1, b10_0, z_ne_o, o_ne_z, zn_add, zn_addl, zn_ladd, zn_mull, zn_subl, ix_zn, ix_l, ck_zn, ck_l, zn_le, zn_le_l, l_le_zn, zn_lt, zn_lt_l, l_lt_zn, zn_eq, zn_eq_l, l_eq_zn, zn_eq_m, m_eq_zn, m_le_zn, zn_lt_m, imin_zn, imax_zn, zn_le_m, ms_fine h p, ms_here h (show p ≤ 1000 by omega), q4', si_si, hv1, v0]
            exact hi
    · rw [if_neg q]
      show _ = some (D (qv M), Ma M p)
      have q5 : ¬ hv b e p = 42 ∧ ¬ hv b e p = 47 := by
        unfold hv
        by_cases g : p < e
        · rw [if_pos g, zn_eq_l (by omega) (by omega), zn_eq_l (by omega) (by omega)]
          refine ⟨fun w => q ⟨g, ?_⟩, fun w => q ⟨g, ?_⟩⟩ <;> (rw [isop2, w]; rfl)
        · rw [if_neg g]
          decide
      simp (disch := omega) only [b_m_product_L6, lt_u, jn_u, bd_s, rf_s, nl_s, nl_n, ↓reduceIte, ↓ckb24, ↓ckb256, ckb_T, ckb01, vsi_i, vsi_l, vsi_r, vsi_k, vsi_n, vsi_w, vsl_i, vsl_l, vsl_r, vsl_k, vsl_n, vsl_w, vsr_i, vsr_l, vsr_r, vsr_k, vsr_n, vsr_w, and_self, and_true, true_and, and_false, false_and, or_self, or_true, true_or, or_false, false_or, not_true_eq_false, not_false_eq_true, ne_eq, eq_self, reduceCtorEq, Nat.reduceEqDiff, Nat.reduceAdd, Nat.reduceMul, Nat.reduceSub, Nat.reduceLT, Nat.reduceLeDiff, Nat.reduceDiv, Nat.add_zero, Nat.zero_add, Nat.not_lt_zero, Nat.zero_le, Nat.le_refl, Nat.lt_irrefl, l_eq_l, m_eq_l, l_eq_m, Int32.reduceLT, Int32.reduceLE, Int32.reduceAdd, Int32.reduceSub, Int32.reduceMul, b01_0, b01_1, b10_0, z_ne_o, o_ne_z, zn_add, zn_addl, zn_ladd, zn_mull, zn_subl, ix_zn, ix_l, ck_zn, ck_l, zn_le, zn_le_l, l_le_zn, zn_lt, zn_lt_l, l_lt_zn, zn_eq, zn_eq_l, l_eq_zn, zn_eq_m, m_eq_zn, m_le_zn, zn_lt_m, imin_zn, imax_zn, zn_le_m, ms_fine h p, ms_here h (show p ≤ 1000 by omega), q5.1, q5.2]
/-- sums: behind one product -/
theorem ms_sumLoop (h : RC a b e M) (he : e ≤ 80) {nest : Int32} {fh fp fs ft : Int32 → PM → Option (Int32 × PM)} {sub : Nat → Nat × Option Dn} {p0 : Nat} (hge : ∀ p, p ≤ (sub p).1 ∧ ((sub p).1 ≤ e ∨ (sub p).1 = p))
    (hs : ∀ p, p0 < p → p ≤ e → mR (sub p) M (fp nest (Ma M p))) : ∀ f p D m, p0 ≤ p → p ≤ e → e - p < f → e - p + 1 < m → mR (plp sub b e 1 f p D) M (b_m_sum_L6 nest fh fp fs ft m (D (qv M)) (Ma M p)) := by
  intro f
  induction f with
  | zero => intro p D m h0 h1 h2; omega
  | succ f ih =>
    intro p D m h0 h1 h2 h3
    obtain ⟨n, rfl⟩ : ∃ n, m = n + 1 := ⟨m - 1, by omega⟩
    have t2 := h.2.2.2.2.2.1 p
    unfold plp
    by_cases q : p < e ∧ isop 1 (b p) = true
    · rw [if_pos q]
      have hsp := hs (p + 1) (by omega) (by omega)
      have hg := hge (p + 1)
      have q4 : hv b e p = zn (b p) := if_pos q.1
      have q1 := q.2
      rw [isop1, Bool.or_eq_true, beq_iff_eq, beq_iff_eq] at q1
      rcases hr : sub (p + 1) with ⟨r1, r2⟩
      rw [hr] at hsp hg
      cases r2 with
      | none =>
        obtain ⟨v, hv1⟩ := mR_n hsp
        have hend : ∀ x, b_m_sum_L6 nest fh fp fs ft n x (Mw M r1) = some (x, Mw M r1) := by
          intro x
          obtain ⟨n', rfl⟩ : ∃ n', n = n' + 1 := ⟨n - 1, by omega⟩
          have hg2 : r1 ≤ 1000 := by
            have := hg.2
            simp only at this
            omega
          simp only [b_m_sum_L6, ms_fineW M hg2, bd_s, ↓reduceIte]
        show ∃ v, _ = some (v, Mw M r1)
        rcases q1 with q1 | q1
        · refine ⟨D (qv M) + v, ?_⟩
          rw [q1] at q4
          have q4' : hv b e p = 43 := q4
          simp (disch := omega) only [b_m_sum_L6, lt_u, jn_u, bd_s, rf_s, nl_s, nl_n, ↓reduceIte, ↓ckb24, ↓ckb256, ckb_T, ckb01, vsi_i, vsi_l, vsi_r, vsi_k, vsi_n, vsi_w, vsl_i, vsl_l, vsl_r, vsl_k, vsl_n, vsl_w, vsr_i, vsr_l, vsr_r, vsr_k, vsr_n, vsr_w, and_self, and_true, true_and, and_false, false_and, or_self, or_true, true_or, or_false, false_or, not_true_eq_false, not_false_eq_true, ne_eq, eq_self, reduceCtorEq, Nat.reduceEqDiff, Nat.reduceAdd, Nat.reduceMul, Nat.reduceSub, Nat.reduceLT, Nat.reduceLeDiff, Nat.reduceDiv, Nat.add_zero, Nat.zero_add, Nat.not_lt_zero, Nat.zero_le, Nat.le_refl, Nat.lt_irrefl, l_eq_l, m_eq_l, l_eq_m, Int32.reduceLT, Int32.reduceLE, Int32.reduceAdd, Int32.reduceSub, Int32.reduceMul, b01_0, b01_1, b10_0, z_ne_o, o_ne_z, zn_add, zn_addl, zn_ladd, zn_mull, zn_subl, ix_zn, ix_l, ck_zn, ck_l, zn_le, zn_le_l, l_le_zn, zn_lt, zn_lt_l, l_lt_zn, zn_eq, zn_eq_l, l_eq_zn, zn_eq_m, m_eq_zn, m_le_zn, zn_lt_m, imin_zn, imax_zn, zn_le_m, ms_fine h p, ms_here h (show p ≤ 1000 by omega), q4', si_si, hv1, hend]
        · refine ⟨D (qv M) - v, ?_⟩
          rw [q1] at q4
          have q4' : hv b e p = 45 := q4
          simp (disch := omega) only [b_m_sum_L6, lt_u, jn_u, bd_s, rf_s, nl_s, nl_n, ↓reduceIte, ↓ckb24, ↓ckb256, ckb_T, ckb01, vsi_i, vsi_l, vsi_r, vsi_k, vsi_n, vsi_w, vsl_i, vsl_l, vsl_r, vsl_k, vsl_n, vsl_w, vsr_i, vsr_l, vsr_r, vsr_k, vsr_n, vsr_w, and_self, and_true, true_and, and_false, false_and, or_self, or_true, true_or, or_false, false_or, not_true_eq_false, not_false_eq_true, ne_eq, eq_self, reduceCtorEq, Nat.reduceEqDiff, Nat.reduceAdd, Nat.reduceMul, Nat.reduceSub, Nat.reduceLT, Nat.reduceLeDiff, Nat.reduceDiv, Nat.add_zero, Nat.zero_add, Nat.not_lt_zero, Nat.zero_le, Nat.le_refl, Nat.lt_irrefl, l_eq_l, m_eq_l, l_eq_m, Int32.reduceLT, Int32.reduceLE, Int32.reduceAdd, Int32.reduceSub, Int32.reduceMul, b01_0, b01_1, b10_0, z_ne_o, o_ne_z, zn_add, zn_addl, zn_ladd, zn_mull, zn_subl, ix_zn, ix_l, ck_zn, ck_l, zn_le, zn_le_l, l_le_zn, zn_lt, zn_lt_l, l_lt_zn, zn_eq, zn_eq_l, l_eq_zn, zn_eq_m, m_eq_zn, m_le_zn, zn_lt_m, imin_zn, imax_zn, zn_le_m, ms_fine h p, ms_here h (show p ≤ 1000 by omega), q4', si_si, hv1, hend]
      | some E =>
        have hv1 := mR_s hsp
        show mR (plp sub b e 1 f r1 (fun a => cmb (zn (b p)) (D a) (E a))) M _
        have hg2 : r1 ≤ e := by
          have := hg.2
          simp only at this
          omega
        have hg1 : p + 1 ≤ r1 := hg.1
        have hi := ih r1 (fun a => cmb (zn (b p)) (D a) (E a)) n (by omega) hg2 (by omega) (by omega)
        rcases q1 with q1 | q1
        · rw [q1] at q4 hi ⊢
          have q4' : hv b e p = 43 := q4
          have c4 : cmb (zn 43) (D (qv M)) (E (qv M)) = D (qv M) + E (qv M) := rfl
          rw [c4] at hi
          simp (disch := omega) only [b_m_sum_L6, lt_u, jn_u, bd_s, rf_s, nl_s, nl_n, ↓reduceIte, ↓ckb24, ↓ckb256, ckb_T, ckb01, vsi_i, vsi_l, vsi_r, vsi_k, vsi_n, vsi_w, vsl_i, vsl_l, vsl_r, vsl_k, vsl_n, vsl_w, vsr_i, vsr_l, vsr_r, vsr_k, vsr_n, vsr_w, and_self, and_true, true_and, and_false, false_and, or_self, or_true, true_or, or_false, false_or, not_true_eq_false, not_false_eq_true, ne_eq, eq_self, reduceCtorEq, Nat.reduceEqDiff, Nat.reduceAdd, Nat.reduceMul, Nat.reduceSub, Nat.reduceLT, Nat.reduceLeDiff, Nat.reduceDiv, Nat.add_zero, Nat.zero_add, Nat.not_lt_zero, Nat.zero_le, Nat.le_refl, Nat.lt_irrefl, l_eq_l, m_eq_l, l_eq_m, Int32.reduceLT, Int32.reduceLE, Int32.reduceAdd, Int32.reduceSub, Int32.reduceMul, b01_0, b01_1, b10_0, z_ne_o, o_ne_z, zn_add, zn_addl, zn_ladd, zn_mull, zn_subl, ix_zn, ix_l, ck_zn, ck_l, zn_le, zn_le_l, l_le_zn, zn_lt, zn_lt_l, l_lt_zn, zn_eq, zn_eq_l, l_eq_zn, zn_eq_m, m_eq_zn, m_le_zn, zn_lt_m, imin_zn, imax_zn, zn_le_m, ms_fine h p, ms_here h (show p ≤ 1000 by omega), q4', si_si, hv1]
          exact hi
        · rw [q1] at q4 hi ⊢
          have q4' : hv b e p = 45 := q4
          have c4 : cmb (zn 45) (D (qv M)) (E (qv M)) = D (qv M) - E (qv M) := rfl
          rw [c4] at hi
          simp (disch := omega) only [b_m_sum_L6, lt_u, jn_u, bd_s, rf_s, nl_s, nl_n, ↓reduceIte, ↓ckb24, ↓ckb256, ckb_T, ckb01, vsi_i, vsi_l, vsi_r, vsi_k, vsi_n, vsi_w, vsl_i, vsl_l, vsl_r, vsl_k, vsl_n, vsl_w, vsr_i, vsr_l, vsr_r, vsr_k, vsr_n, vsr_w, and_self, and_true, true_and, and_false, false_and, or_self, or_true, true_or, or_false, false_or, not_true_eq_false, not_false_eq_true, ne_eq, eq_self, reduceCtorEq, Nat.reduceEqDiff, Nat.reduceAdd, Nat.reduceMul, Nat.reduceSub, Nat.reduceLT, Nat.reduceLeDiff, Nat.reduceDiv, Nat.add_zero, Nat.zero_add, Nat.not_lt_zero, Nat.zero_le, Nat.le_refl, Nat.lt_irrefl, l_eq_l, m_eq_l, l_eq_m, Int32.reduceLT, Int32.reduceLE, Int32.reduceAdd, Int32.reduceSub, Int32.reduceMul, b01_0, b01_1, b10_0, z_ne_o, o_ne_z, zn_add, zn_addl, zn_ladd, zn_mull, zn_subl, ix_zn, ix_l, ck_zn, ck_l, zn_le, zn_le_l, l_le_zn, zn_lt, zn_lt_l, l_lt_zn, zn_eq, zn_eq_l, l_eq_zn, zn_eq_m, m_eq_zn, m_le_zn, zn_lt_m, imin_zn, imax_zn, zn_le_m, ms_fine h p, ms_here h (show p ≤ 1000 by omega), q4', si_si, hv1]
          exact hi
    · rw [if_neg q]
      show _ = some (D (qv M), Ma M p)
      have q5 : ¬ hv b e p = 43 ∧ ¬ hv b e p = 45 := by
        unfold hv
        by_cases g : p < e
        · rw [if_pos g, zn_eq_l (by omega) (by omega), zn_eq_l (by omega) (by omega)]
          refine ⟨fun w => q ⟨g, ?_⟩, fun w => q ⟨g, ?_⟩⟩ <;> (rw [isop1, w]; rfl)
        · rw [if_neg g]
          decide
      simp (disch := omega) only [b_m_sum_L6, lt_u, jn_u, bd_s, rf_s, nl_s, nl_n, ↓reduceIte, ↓ckb24, ↓ckb256, ckb_T, ckb01, vsi_i, vsi_l, vsi_r, vsi_k, vsi_n, vsi_w, vsl_i, vsl_l, vsl_r, vsl_k, vsl_n, vsl_w, vsr_i, vsr_l, vsr_r, vsr_k, vsr_n, vsr_w, and_self, and_true, true_and, and_false, false_and, or_self, or_true, true_or, or_false, false_or, not_true_eq_false, not_false_eq_true, ne_eq, eq_self, reduceCtorEq, Nat.reduceEqDiff, Nat.reduceAdd, Nat.reduceMul, Nat.reduceSub, Nat.reduceLT, Nat.reduceLeDiff, Nat.reduceDiv, Nat.add_zero, Nat.zero_add, Nat.not_lt_zero, Nat.zero_le, Nat.le_refl, Nat.lt_irrefl, l_eq_l, m_eq_l, l_eq_m, Int32.reduceLT, Int32.reduceLE, Int32.reduceAdd, Int32.reduceSub, Int32.reduceMul, b01_0, b01_1, b10_0, z_ne_o, o_ne_z, zn_add, zn_addl, zn_ladd, zn_mull, zn_subl, ix_zn, ix_l, ck_zn, ck_l, zn_le, zn_le_l, l_le_zn, zn_lt, zn_lt_l, l_lt_zn, zn_eq, zn_eq_l, l_eq_zn, zn_eq_m, m_eq_zn, m_le_zn, zn_lt_m, imin_zn, imax_zn, zn_le_m, ms_fine h p, ms_here h (show p ≤ 1000 by omega), q5.1, q5.2]
/-- a comparison at most: behind one sum -/
theorem ms_held (h : RC a b e M) (he : e ≤ 80) {nest : Int32} {fh fp fs ft : Int32 → PM → Option (Int32 × PM)} {sub : Nat → Nat × Option Dn} {p0 : Nat} (hp0 : p0 ≤ e) (hge : ∀ p, p ≤ (sub p).1 ∧ ((sub p).1 ≤ e ∨ (sub p).1 = p))
    (hs : ∀ p, p0 ≤ p → p ≤ e → mR (sub p) M (fs nest (Ma M p))) : mR (pbn (sub p0) (fun q D => plp sub b e 0 41 q D)) M (b_m_held fh fp fs ft nest (Ma M p0)) := by
  have hs0 := hs p0 (Nat.le_refl _) hp0
  have hg0 := hge p0
  unfold pbn
  rcases hr : sub p0 with ⟨p, r2⟩
  rw [hr] at hs0 hg0
  have hp : p0 ≤ p := hg0.1
  have hp2 : p ≤ e := by
    have := hg0.2
    simp only at this
    omega
  have l60 : m_passes 60 (Ma M p) = _ := ms_passes h (show p ≤ 1000 by omega) (c := 60) (by omega)
  have l61 : m_passes 61 (Ma M p) = _ := ms_passes h (show p ≤ 1000 by omega) (c := 61) (by omega)
  have l62 : m_passes 62 (Ma M p) = _ := ms_passes h (show p ≤ 1000 by omega) (c := 62) (by omega)
  cases r2 with
  | none =>
    obtain ⟨v, hv1⟩ := mR_n hs0
    refine ⟨v, ?_⟩
    simp (disch := omega) only [b_m_held, hv1, bd_s, ms_passesW M _ (show p ≤ 1000 by omega), ↓reduceIte]
  | some D =>
    have hv1 := mR_s hs0
    show mR (plp sub b e 0 (40 + 1) p D) M _
    rw [plp]
    by_cases q : p < e ∧ isop 0 (b p) = true
    · rw [if_pos q]
      have q1 := q.2
      rw [isop0, Bool.or_eq_true, Bool.or_eq_true, beq_iff_eq, beq_iff_eq, beq_iff_eq] at q1
      have hs1 := hs (p + 1) (by omega) (by omega)
      unfold pbn
      rcases hr2 : sub (p + 1) with ⟨p1, r3⟩
      rw [hr2] at hs1
      cases r3 with
      | none =>
        obtain ⟨v, hv2⟩ := mR_n hs1
        show ∃ v, _ = some (v, Mw M p1)
        rcases q1 with (q1 | q1) | q1
        · rw [if_pos ⟨q.1, q1⟩] at l60
          by_cases g : v ≤ D (qv M)
          · exact ⟨0, by simp only [b_m_held, hv1, bd_s, l60, hv2, o_ne_z, g, ↓reduceIte]⟩
          · exact ⟨1, by simp only [b_m_held, hv1, bd_s, l60, hv2, o_ne_z, g, ↓reduceIte]⟩
        · rw [if_neg (by omega)] at l60
          rw [if_pos ⟨q.1, q1⟩] at l62
          by_cases g : D (qv M) ≤ v
          · exact ⟨0, by simp only [b_m_held, hv1, bd_s, l60, l62, hv2, o_ne_z, g, ↓reduceIte]⟩
          · exact ⟨1, by simp only [b_m_held, hv1, bd_s, l60, l62, hv2, o_ne_z, g, ↓reduceIte]⟩
        · rw [if_neg (by omega)] at l60
          rw [if_neg (by omega)] at l62
          rw [if_pos ⟨q.1, q1⟩] at l61
          by_cases g : D (qv M) = v
          · exact ⟨1, by simp only [b_m_held, hv1, bd_s, l60, l62, l61, hv2, o_ne_z, g, ↓reduceIte]⟩
          · exact ⟨0, by simp only [b_m_held, hv1, bd_s, l60, l62, l61, hv2, o_ne_z, g, ↓reduceIte]⟩
      | some E =>
        have hv2 := mR_s hs1
        show _ = some (cmb (zn (b p)) (D (qv M)) (E (qv M)), Ma M p1)
        rcases q1 with (q1 | q1) | q1
        · rw [if_pos ⟨q.1, q1⟩] at l60
          rw [q1]
          have c4 : cmb (zn 60) (D (qv M)) (E (qv M)) = if E (qv M) ≤ D (qv M) then 0 else 1 := rfl
          rw [c4]
          by_cases g : E (qv M) ≤ D (qv M)
          · simp only [b_m_held, hv1, bd_s, l60, hv2, o_ne_z, g, ↓reduceIte]
          · simp only [b_m_held, hv1, bd_s, l60, hv2, o_ne_z, g, ↓reduceIte]
        · rw [if_neg (by omega)] at l60
          rw [if_pos ⟨q.1, q1⟩] at l62
          rw [q1]
          have c4 : cmb (zn 62) (D (qv M)) (E (qv M)) = if D (qv M) ≤ E (qv M) then 0 else 1 := rfl
          rw [c4]
          by_cases g : D (qv M) ≤ E (qv M)
          · simp only [b_m_held, hv1, bd_s, l60, l62, hv2, o_ne_z, g, ↓reduceIte]
          · simp only [b_m_held, hv1, bd_s, l60, l62, hv2, o_ne_z, g, ↓reduceIte]
        · rw [if_neg (by omega)] at l60
          rw [if_neg (by omega)] at l62
          rw [if_pos ⟨q.1, q1⟩] at l61
          rw [q1]
          have c4 : cmb (zn 61) (D (qv M)) (E (qv M)) = if D (qv M) = E (qv M) then 1 else 0 := rfl
          rw [c4]
          by_cases g : D (qv M) = E (qv M)
          · simp only [b_m_held, hv1, bd_s, l60, l62, l61, hv2, o_ne_z, g, ↓reduceIte]
          · simp only [b_m_held, hv1, bd_s, l60, l62, l61, hv2, o_ne_z, g, ↓reduceIte]
    · rw [if_neg q]
      show _ = some (D (qv M), Ma M p)
      have n60 : ¬ (p < e ∧ b p = 60) := fun w => q ⟨w.1, by rw [isop0, w.2]; rfl⟩
      have n61 : ¬ (p < e ∧ b p = 61) := fun w => q ⟨w.1, by rw [isop0, w.2]; rfl⟩
      have n62 : ¬ (p < e ∧ b p = 62) := fun w => q ⟨w.1, by rw [isop0, w.2]; rfl⟩
      rw [if_neg n60] at l60
      rw [if_neg n61] at l61
      rw [if_neg n62] at l62
      simp only [b_m_held, hv1, bd_s, l60, l61, l62, ↓reduceIte]
/-- a thing -/
theorem ms_thing (h : RC a b e M) (he : e ≤ 80) {k nest p : Nat} (hn : nest ≤ 4) (hp : p ≤ e) {fh fp fs ft : Int32 → PM → Option (Int32 × PM)} (h85 : M.k 85 = (20, 7))
    (ht : p < e → mR (pz b e k 3 nest (p + 1)) M (ft (zn nest) (Ma M (p + 1)))) (hh : p < e → nest < 4 → mR (pz b e k 0 (nest + 1) (p + 1)) M (fh (zn (nest + 1)) (Ma M (p + 1)))) :
    mR (pz b e (k + 1) 3 nest p) M (b_m_thing fh fp fs ft (zn nest) (Ma M p)) := by
  have t2 := h.2.2.2.2.2.1 p
  have hp1 : p ≤ 1000 := by omega
  have l45 : m_passes 45 (Ma M p) = _ := ms_passes h hp1 (c := 45) (by omega)
  have e1 : (Ma M p).i 72 17 = zn p := by simp only [vsi_i, vsi_l, vsi_r, vsi_k, vsi_n, vsi_w, vsl_i, vsl_l, vsl_r, vsl_k, vsl_n, vsl_w, vsr_i, vsr_l, vsr_r, vsr_k, vsr_n, vsr_w, and_self, and_true, true_and, and_false, false_and, or_self, or_true, true_or, or_false, false_or, not_true_eq_false, not_false_eq_true, ne_eq, eq_self, reduceCtorEq, Nat.reduceEqDiff, Nat.reduceAdd, Nat.reduceMul, Nat.reduceSub, Nat.reduceLT, Nat.reduceLeDiff, Nat.reduceDiv, Nat.add_zero, Nat.zero_add, Nat.not_lt_zero, Nat.zero_le, Nat.le_refl, Nat.lt_irrefl, ↓reduceIte]
  unfold pz
  rw [if_pos rfl]
  by_cases q1 : p < e ∧ b p = 45
  · rw [if_pos q1]
    rw [if_pos q1] at l45
    have ht := ht q1.1
    unfold pbn
    rcases hr : pz b e k 3 nest (p + 1) with ⟨r1, r2⟩
    rw [hr] at ht
    cases r2 with
    | none =>
      obtain ⟨v, hv1⟩ := mR_n ht
      exact ⟨-v, by simp only [b_m_thing, l45, bd_s, o_ne_z, hv1, ↓reduceIte]⟩
    | some D =>
      have hv1 := mR_s ht
      show _ = some (-(D (qv M)), Ma M r1)
      simp only [b_m_thing, l45, bd_s, o_ne_z, hv1, ↓reduceIte]
  · rw [if_neg q1]
    rw [if_neg q1] at l45
    by_cases q2 : p < e ∧ isd (b p) = true
    · rw [if_pos q2]
      have d2 : 48 ≤ b p ∧ b p ≤ 57 := by
        have := q2.2
        simpa only [isd, Bool.and_eq_true, decide_eq_true_eq] using this
      have q4 : hv b e p = zn (b p) := if_pos q2.1
      have hnum : m_number 3 (Ma M p) = _ := ms_number h (d := 2) (p := p) (by omega) (by omega) q2
      show _ = some (zn (num b e 3 p 0).2, Ma M (num b e 3 p 0).1)
      have g1 : ¬ b p = 40 := by omega
      simp (disch := omega) only [b_m_thing, l45, lt_u, jn_u, bd_s, rf_s, nl_s, nl_n, ↓reduceIte, ↓ckb24, ↓ckb256, ckb_T, ckb01, vsi_i, vsi_l, vsi_r, vsi_k, vsi_n, vsi_w, vsl_i, vsl_l, vsl_r, vsl_k, vsl_n, vsl_w, vsr_i, vsr_l, vsr_r, vsr_k, vsr_n, vsr_w, and_self, and_true, true_and, and_false, false_and, or_self, or_true, true_or, or_false, false_or, not_true_eq_false, not_false_eq_true, ne_eq, eq_self, reduceCtorEq, Nat.reduceEqDiff, Nat.reduceAdd, Nat.reduceMul, Nat.reduceSub, Nat.reduceLT, Nat.reduceLeDiff, Nat.reduceDiv, Nat.add_zero, Nat.zero_add, Nat.not_lt_zero, Nat.zero_le, Nat.le_refl, Nat.lt_irrefl, l_eq_l, m_eq_l, l_eq_m, Int32.reduceLT, Int32.reduceLE, Int32.reduceAdd, Int32.reduceSub, Int32.reduceMul, b01_0, b01_1, b10_0, z_ne_o, o_ne_z, zn_add, zn_addl, zn_ladd, zn_mull, zn_subl, ix_zn, ix_l, ck_zn, ck_l, zn_le, zn_le_l, l_le_zn, zn_lt, zn_lt_l, l_lt_zn, zn_eq, zn_eq_l, l_eq_zn, zn_eq_m, m_eq_zn, m_le_zn, zn_lt_m, imin_zn, imax_zn, zn_le_m, ms_fine h p, ms_here h hp1, q4, m_in32, d2, hnum, g1]
    · rw [if_neg q2]
      have q5 : ¬ (48 ≤ hv b e p ∧ hv b e p ≤ 57) := by
        unfold hv
        by_cases g2 : p < e
        · rw [if_pos g2, l_le_zn (by omega) (by omega), zn_le_l (by omega) (by omega)]
          intro q6
          apply q2
          refine ⟨g2, ?_⟩
          simp only [isd, Bool.and_eq_true, decide_eq_true_eq]
          exact q6
        · rw [if_neg g2]
          decide
      by_cases q3 : p < e ∧ isl (b p) = true
      · rw [if_pos q3]
        show _ = some (qv M (lx (zn (b p))), Ma M (p + 1))
        have q4 : hv b e p = zn (b p) := if_pos q3.1
        have q5n : ¬ (48 ≤ b p ∧ b p ≤ 57) := by
          intro q6
          apply q2
          refine ⟨q3.1, ?_⟩
          simp only [isd, Bool.and_eq_true, decide_eq_true_eq]
          exact q6
        have g1 : ¬ b p = 40 := by
          intro g
          have := q3.2
          rw [g] at this
          revert this
          decide
        have hl := ms_letterOf t2
        have hl7 := lx_lt (zn (b p))
        have e25 : (Ma M (p + 1)).i 72 25 = M.i 72 25 := by simp only [vsi_i, vsi_l, vsi_r, vsi_k, vsi_n, vsi_w, vsl_i, vsl_l, vsl_r, vsl_k, vsl_n, vsl_w, vsr_i, vsr_l, vsr_r, vsr_k, vsr_n, vsr_w, and_self, and_true, true_and, and_false, false_and, or_self, or_true, true_or, or_false, false_or, not_true_eq_false, not_false_eq_true, ne_eq, eq_self, reduceCtorEq, Nat.reduceEqDiff, Nat.reduceAdd, Nat.reduceMul, Nat.reduceSub, Nat.reduceLT, Nat.reduceLeDiff, Nat.reduceDiv, Nat.add_zero, Nat.zero_add, Nat.not_lt_zero, Nat.zero_le, Nat.le_refl, Nat.lt_irrefl, ↓reduceIte]
        unfold qv
        by_cases i0 : M.i 72 25 = 0
        · simp (disch := omega) only [b_m_thing, l45, lt_u, jn_u, bd_s, rf_s, nl_s, nl_n, ↓reduceIte, ↓ckb24, ↓ckb256, ckb_T, ckb01, vsi_i, vsi_l, vsi_r, vsi_k, vsi_n, vsi_w, vsl_i, vsl_l, vsl_r, vsl_k, vsl_n, vsl_w, vsr_i, vsr_l, vsr_r, vsr_k, vsr_n, vsr_w, and_self, and_true, true_and, and_false, false_and, or_self, or_true, true_or, or_false, false_or, not_true_eq_false, not_false_eq_true, ne_eq, eq_self, reduceCtorEq, Nat.reduceEqDiff, Nat.reduceAdd, Nat.reduceMul, Nat.reduceSub, Nat.reduceLT, Nat.reduceLeDiff, Nat.reduceDiv, Nat.add_zero, Nat.zero_add, Nat.not_lt_zero, Nat.zero_le, Nat.le_refl, Nat.lt_irrefl, l_eq_l, m_eq_l, l_eq_m, Int32.reduceLT, Int32.reduceLE, Int32.reduceAdd, Int32.reduceSub, Int32.reduceMul, b01_0, b01_1, b10_0, z_ne_o, o_ne_z, zn_add, zn_addl, zn_ladd, zn_mull, zn_subl, ix_zn, ix_l, ck_zn, ck_l, zn_le, zn_le_l, l_le_zn, zn_lt, zn_lt_l, l_lt_zn, zn_eq, zn_eq_l, l_eq_zn, zn_eq_m, m_eq_zn, m_le_zn, zn_lt_m, imin_zn, imax_zn, zn_le_m, ms_fine h p, ms_here h hp1, q4, m_in32, q5n, g1, hl, hl7, q3.2, i0, si_si]
        · simp (disch := omega) only [b_m_thing, l45, lt_u, jn_u, bd_s, rf_s, nl_s, nl_n, ↓reduceIte, ↓ckb24, ↓ckb256, ckb_T, ckb01, vsi_i, vsi_l, vsi_r, vsi_k, vsi_n, vsi_w, vsl_i, vsl_l, vsl_r, vsl_k, vsl_n, vsl_w, vsr_i, vsr_l, vsr_r, vsr_k, vsr_n, vsr_w, and_self, and_true, true_and, and_false, false_and, or_self, or_true, true_or, or_false, false_or, not_true_eq_false, not_false_eq_true, ne_eq, eq_self, reduceCtorEq, Nat.reduceEqDiff, Nat.reduceAdd, Nat.reduceMul, Nat.reduceSub, Nat.reduceLT, Nat.reduceLeDiff, Nat.reduceDiv, Nat.add_zero, Nat.zero_add, Nat.not_lt_zero, Nat.zero_le, Nat.le_refl, Nat.lt_irrefl, l_eq_l, m_eq_l, l_eq_m, Int32.reduceLT, Int32.reduceLE, Int32.reduceAdd, Int32.reduceSub, Int32.reduceMul, b01_0, b01_1, b10_0, z_ne_o, o_ne_z, zn_add, zn_addl, zn_ladd, zn_mull, zn_subl, ix_zn, ix_l, ck_zn, ck_l, zn_le, zn_le_l, l_le_zn, zn_lt, zn_lt_l, l_lt_zn, zn_eq, zn_eq_l, l_eq_zn, zn_eq_m, m_eq_zn, m_le_zn, zn_lt_m, imin_zn, imax_zn, zn_le_m, ms_fine h p, ms_here h hp1, q4, m_in32, q5n, g1, hl, hl7, q3.2, i0, si_si]
      · rw [if_neg q3]
        by_cases q6 : (p < e ∧ b p = 40) ∧ nest < 4
        · rw [if_pos q6]
          have hh := hh q6.1.1 q6.2
          have q4 : hv b e p = 40 := by
            have : hv b e p = zn (b p) := if_pos q6.1.1
            rw [this, q6.1.2]
            rfl
          have g2 : ¬ 4 ≤ nest := by omega
          have hg := pz_ge b e k 0 (nest + 1) (p + 1)
          unfold pbn
          rcases hr : pz b e k 0 (nest + 1) (p + 1) with ⟨r1, r2⟩
          rw [hr] at hh hg
          have hr1 : r1 ≤ e := by
            have := hg.2
            simp only at this
            omega
          cases r2 with
          | none =>
            obtain ⟨v, hv1⟩ := mR_n hh
            refine ⟨v, ?_⟩
            simp (disch := omega) only [b_m_thing, l45, lt_u, jn_u, bd_s, rf_s, nl_s, nl_n, ↓reduceIte, ↓ckb24, ↓ckb256, ckb_T, ckb01, vsi_i, vsi_l, vsi_r, vsi_k, vsi_n, vsi_w, vsl_i, vsl_l, vsl_r, vsl_k, vsl_n, vsl_w, vsr_i, vsr_l, vsr_r, vsr_k, vsr_n, vsr_w, and_self, and_true, true_and, and_false, false_and, or_self, or_true, true_or, or_false, false_or, not_true_eq_false, not_false_eq_true, ne_eq, eq_self, reduceCtorEq, Nat.reduceEqDiff, Nat.reduceAdd, Nat.reduceMul, Nat.reduceSub, Nat.reduceLT, Nat.reduceLeDiff, Nat.reduceDiv, Nat.add_zero, Nat.zero_add, Nat.not_lt_zero, Nat.zero_le, Nat.le_refl, Nat.lt_irrefl, l_eq_l, m_eq_l, l_eq_m, Int32.reduceLT, Int32.reduceLE, Int32.reduceAdd, Int32.reduceSub, Int32.reduceMul, b01_0, b01_1, b10_0, z_ne_o, o_ne_z, zn_add, zn_addl, zn_ladd, zn_mull, zn_subl, ix_zn, ix_l, ck_zn, ck_l, zn_le, zn_le_l, l_le_zn, zn_lt, zn_lt_l, l_lt_zn, zn_eq, zn_eq_l, l_eq_zn, zn_eq_m, m_eq_zn, m_le_zn, zn_lt_m, imin_zn, imax_zn, zn_le_m, ms_fine h p, ms_here h hp1, q4, g2, si_si, hv1, ms_needW M _ (show r1 ≤ 1000 by omega)]
          | some D =>
            have hv1 := mR_s hh
            have hn : m_need 41 (Ma M r1) = _ := ms_need h (show r1 ≤ 1000 by omega) (c := 41) (by omega)
            by_cases q7 : r1 < e ∧ b r1 = 41
            · rw [if_pos q7] at hn
              show mR (if r1 < e ∧ b r1 = 41 then (r1 + 1, some D) else (r1, none)) M _
              rw [if_pos q7]
              show _ = some (D (qv M), Ma M (r1 + 1))
              simp (disch := omega) only [b_m_thing, l45, lt_u, jn_u, bd_s, rf_s, nl_s, nl_n, ↓reduceIte, ↓ckb24, ↓ckb256, ckb_T, ckb01, vsi_i, vsi_l, vsi_r, vsi_k, vsi_n, vsi_w, vsl_i, vsl_l, vsl_r, vsl_k, vsl_n, vsl_w, vsr_i, vsr_l, vsr_r, vsr_k, vsr_n, vsr_w, and_self, and_true, true_and, and_false, false_and, or_self, or_true, true_or, or_false, false_or, not_true_eq_false, not_false_eq_true, ne_eq, eq_self, reduceCtorEq, Nat.reduceEqDiff, Nat.reduceAdd, Nat.reduceMul, Nat.reduceSub, Nat.reduceLT, Nat.reduceLeDiff, Nat.reduceDiv, Nat.add_zero, Nat.zero_add, Nat.not_lt_zero, Nat.zero_le, Nat.le_refl, Nat.lt_irrefl, l_eq_l, m_eq_l, l_eq_m, Int32.reduceLT, Int32.reduceLE, Int32.reduceAdd, Int32.reduceSub, Int32.reduceMul, b01_0, b01_1, b10_0, z_ne_o, o_ne_z, zn_add, zn_addl, zn_ladd, zn_mull, zn_subl, ix_zn, ix_l, ck_zn, ck_l, zn_le, zn_le_l, l_le_zn, zn_lt, zn_lt_l, l_lt_zn, zn_eq, zn_eq_l, l_eq_zn, zn_eq_m, m_eq_zn, m_le_zn, zn_lt_m, imin_zn, imax_zn, zn_le_m, ms_fine h p, ms_here h hp1, q4, g2, si_si, hv1, hn]
            · rw [if_neg q7] at hn
              show mR (if r1 < e ∧ b r1 = 41 then (r1 + 1, some D) else (r1, none)) M _
              rw [if_neg q7]
              refine ⟨D (qv M), ?_⟩
              simp (disch := omega) only [b_m_thing, l45, lt_u, jn_u, bd_s, rf_s, nl_s, nl_n, ↓reduceIte, ↓ckb24, ↓ckb256, ckb_T, ckb01, vsi_i, vsi_l, vsi_r, vsi_k, vsi_n, vsi_w, vsl_i, vsl_l, vsl_r, vsl_k, vsl_n, vsl_w, vsr_i, vsr_l, vsr_r, vsr_k, vsr_n, vsr_w, and_self, and_true, true_and, and_false, false_and, or_self, or_true, true_or, or_false, false_or, not_true_eq_false, not_false_eq_true, ne_eq, eq_self, reduceCtorEq, Nat.reduceEqDiff, Nat.reduceAdd, Nat.reduceMul, Nat.reduceSub, Nat.reduceLT, Nat.reduceLeDiff, Nat.reduceDiv, Nat.add_zero, Nat.zero_add, Nat.not_lt_zero, Nat.zero_le, Nat.le_refl, Nat.lt_irrefl, l_eq_l, m_eq_l, l_eq_m, Int32.reduceLT, Int32.reduceLE, Int32.reduceAdd, Int32.reduceSub, Int32.reduceMul, b01_0, b01_1, b10_0, z_ne_o, o_ne_z, zn_add, zn_addl, zn_ladd, zn_mull, zn_subl, ix_zn, ix_l, ck_zn, ck_l, zn_le, zn_le_l, l_le_zn, zn_lt, zn_lt_l, l_lt_zn, zn_eq, zn_eq_l, l_eq_zn, zn_eq_m, m_eq_zn, m_le_zn, zn_lt_m, imin_zn, imax_zn, zn_le_m, ms_fine h p, ms_here h hp1, q4, g2, si_si, hv1, hn]
        · rw [if_neg q6]
          refine ⟨0, ?_⟩
          have hl : m_letterOf (hv b e p) (Ma M p) = some (-1, Ma M p) := by
            unfold hv
            by_cases g : p < e
            · rw [if_pos g, ms_letterOf t2, if_neg (fun w => q3 ⟨g, w⟩)]
            · rw [if_neg g]
              rfl
          have hf := ms_fault h p
          by_cases g3 : hv b e p = 40
          · have g4 : 4 ≤ nest := by
              rcases Nat.lt_or_ge nest 4 with w | w
              · exfalso
                apply q6
                unfold hv at g3
                by_cases g : p < e
                · rw [if_pos g, zn_eq_l (by omega) (by omega)] at g3
                  exact ⟨⟨g, g3⟩, w⟩
                · rw [if_neg g] at g3
                  exact absurd g3 (by decide)
              · exact w
            rw [g3] at hl q5
            simp (disch := omega) only [b_m_thing, l45, lt_u, jn_u, bd_s, rf_s, nl_s, nl_n, ↓reduceIte, ↓ckb24, ↓ckb256, ckb_T, ckb01, vsi_i, vsi_l, vsi_r, vsi_k, vsi_n, vsi_w, vsl_i, vsl_l, vsl_r, vsl_k, vsl_n, vsl_w, vsr_i, vsr_l, vsr_r, vsr_k, vsr_n, vsr_w, and_self, and_true, true_and, and_false, false_and, or_self, or_true, true_or, or_false, false_or, not_true_eq_false, not_false_eq_true, ne_eq, eq_self, reduceCtorEq, Nat.reduceEqDiff, Nat.reduceAdd, Nat.reduceMul, Nat.reduceSub, Nat.reduceLT, Nat.reduceLeDiff, Nat.reduceDiv, Nat.add_zero, Nat.zero_add, Nat.not_lt_zero, Nat.zero_le, Nat.le_refl, Nat.lt_irrefl, l_eq_l, m_eq_l, l_eq_m, Int32.reduceLT, Int32.reduceLE, Int32.reduceAdd, Int32.reduceSub, Int32.reduceMul, b01_0, b01_1, b10_0, z_ne_o, o_ne_z, zn_add, zn_addl, zn_ladd, zn_mull, zn_subl, ix_zn, ix_l, ck_zn, ck_l, zn_le, zn_le_l, l_le_zn, zn_lt, zn_lt_l, l_lt_zn, zn_eq, zn_eq_l, l_eq_zn, zn_eq_m, m_eq_zn, m_le_zn, zn_lt_m, imin_zn, imax_zn, zn_le_m, ms_fine h p, ms_here h hp1, m_in32, q5, hl, g3, g4, hf]
          · simp (disch := omega) only [b_m_thing, l45, lt_u, jn_u, bd_s, rf_s, nl_s, nl_n, ↓reduceIte, ↓ckb24, ↓ckb256, ckb_T, ckb01, vsi_i, vsi_l, vsi_r, vsi_k, vsi_n, vsi_w, vsl_i, vsl_l, vsl_r, vsl_k, vsl_n, vsl_w, vsr_i, vsr_l, vsr_r, vsr_k, vsr_n, vsr_w, and_self, and_true, true_and, and_false, false_and, or_self, or_true, true_or, or_false, false_or, not_true_eq_false, not_false_eq_true, ne_eq, eq_self, reduceCtorEq, Nat.reduceEqDiff, Nat.reduceAdd, Nat.reduceMul, Nat.reduceSub, Nat.reduceLT, Nat.reduceLeDiff, Nat.reduceDiv, Nat.add_zero, Nat.zero_add, Nat.not_lt_zero, Nat.zero_le, Nat.le_refl, Nat.lt_irrefl, l_eq_l, m_eq_l, l_eq_m, Int32.reduceLT, Int32.reduceLE, Int32.reduceAdd, Int32.reduceSub, Int32.reduceMul, b01_0, b01_1, b10_0, z_ne_o, o_ne_z, zn_add, zn_addl, zn_ladd, zn_mull, zn_subl, ix_zn, ix_l, ck_zn, ck_l, zn_le, zn_le_l, l_le_zn, zn_lt, zn_lt_l, l_lt_zn, zn_eq, zn_eq_l, l_eq_zn, zn_eq_m, m_eq_zn, m_le_zn, zn_lt_m, imin_zn, imax_zn, zn_le_m, ms_fine h p, ms_here h hp1, m_in32, q5, hl, g3, hf]
/-- all together -/
theorem ms_rule (h : RC a b e M) (he : e ≤ 40) (h85 : M.k 85 = (20, 7)) : ∀ n k nest p, nest ≤ 4 → p ≤ e →
    (6 * (4 - nest) + 4 + (e - p) < n → 6 * (4 - nest) + 4 + (e - p) < k → mR (pz b e k 0 nest p) M ((G_m_held n).1 (zn nest) (Ma M p))) ∧
    (6 * (4 - nest) + 3 + (e - p) < n → 6 * (4 - nest) + 3 + (e - p) < k → mR (pz b e k 1 nest p) M ((G_m_held n).2.2.1 (zn nest) (Ma M p))) ∧
    (6 * (4 - nest) + 2 + (e - p) < n → 6 * (4 - nest) + 2 + (e - p) < k → mR (pz b e k 2 nest p) M ((G_m_held n).2.1 (zn nest) (Ma M p))) ∧
    (6 * (4 - nest) + 1 + (e - p) < n → 6 * (4 - nest) + 1 + (e - p) < k → mR (pz b e k 3 nest p) M ((G_m_held n).2.2.2 (zn nest) (Ma M p))) := by
  intro n
  induction n with
  | zero => intro k nest p _ _; exact ⟨fun q => absurd q (by omega), fun q => absurd q (by omega), fun q => absurd q (by omega), fun q => absurd q (by omega)⟩
  | succ n ih =>
    intro k nest p hn hp
    refine ⟨fun q1 q2 => ?_, fun q1 q2 => ?_, fun q1 q2 => ?_, fun q1 q2 => ?_⟩
    · obtain ⟨k, rfl⟩ : ∃ m, k = m + 1 := ⟨k - 1, by omega⟩
      unfold pz
      rw [if_neg (by omega)]
      exact ms_held h (by omega) (fh := (G_m_held n).1) (fp := (G_m_held n).2.1) (fs := (G_m_held n).2.2.1) (ft := (G_m_held n).2.2.2) hp (fun q => pz_ge b e k 1 nest q) (fun q g1 g2 => (ih k nest q hn g2).2.1 (by omega) (by omega))
    · obtain ⟨k, rfl⟩ : ∃ m, k = m + 1 := ⟨k - 1, by omega⟩
      unfold pz
      rw [if_neg (by omega)]
      have hs := (ih k nest p hn hp).2.2.1 (by omega) (by omega)
      have hg := pz_ge b e k 2 nest p
      unfold pbn
      rcases hr : pz b e k 2 nest p with ⟨r1, r2⟩
      rw [hr] at hs hg
      have hr1 : p ≤ r1 ∧ r1 ≤ e := by
        have := hg.2
        have := hg.1
        simp only at *
        omega
      show mR _ M (b_m_sum _ _ _ _ (zn nest) (Ma M p))
      cases r2 with
      | none =>
        obtain ⟨v, hv1⟩ := mR_n hs
        refine ⟨v, ?_⟩
        unfold b_m_sum FU
        rw [hv1, bd_s, b_m_sum_L6, ms_fineW M (show r1 ≤ 1000 by omega), bd_s, if_pos rfl]
      | some D =>
        have hv1 := mR_s hs
        unfold b_m_sum
        rw [hv1, bd_s]
        exact ms_sumLoop h (by omega) (fh := (G_m_held n).1) (fp := (G_m_held n).2.1) (fs := (G_m_held n).2.2.1) (ft := (G_m_held n).2.2.2) (p0 := p) (fun q => pz_ge b e k 2 nest q) (fun q g1 g2 => (ih k nest q hn g2).2.2.1 (by omega) (by omega)) 41 r1 D FU hr1.1 hr1.2 (by omega) (FU_lt (by omega))
    · obtain ⟨k, rfl⟩ : ∃ m, k = m + 1 := ⟨k - 1, by omega⟩
      unfold pz
      rw [if_neg (by omega)]
      have hs := (ih k nest p hn hp).2.2.2 (by omega) (by omega)
      have hg := pz_ge b e k 3 nest p
      unfold pbn
      rcases hr : pz b e k 3 nest p with ⟨r1, r2⟩
      rw [hr] at hs hg
      have hr1 : p ≤ r1 ∧ r1 ≤ e := by
        have := hg.2
        have := hg.1
        simp only at *
        omega
      show mR _ M (b_m_product _ _ _ _ (zn nest) (Ma M p))
      cases r2 with
      | none =>
        obtain ⟨v, hv1⟩ := mR_n hs
        refine ⟨v, ?_⟩
        unfold b_m_product FU
        rw [hv1, bd_s, b_m_product_L6, ms_fineW M (show r1 ≤ 1000 by omega), bd_s, if_pos rfl]
      | some D =>
        have hv1 := mR_s hs
        unfold b_m_product
        rw [hv1, bd_s]
        exact ms_prodLoop h (by omega) (fh := (G_m_held n).1) (fp := (G_m_held n).2.1) (fs := (G_m_held n).2.2.1) (ft := (G_m_held n).2.2.2) (p0 := p) (fun q => pz_ge b e k 3 nest q) (fun q g1 g2 => (ih k nest q hn g2).2.2.2 (by omega) (by omega)) 41 r1 D FU hr1.1 hr1.2 (by omega) (FU_lt (by omega))
    · obtain ⟨k, rfl⟩ : ∃ m, k = m + 1 := ⟨k - 1, by omega⟩
      exact ms_thing h (by omega) (fh := (G_m_held n).1) (fp := (G_m_held n).2.1) (fs := (G_m_held n).2.2.1) (ft := (G_m_held n).2.2.2) hn hp h85 (fun g => (ih k nest (p + 1) hn (by omega)).2.2.2 (by omega) (by omega)) (fun g1 g2 => (ih k (nest + 1) (p + 1) (by omega) (by omega)).1 (by omega) (by omega))
end
