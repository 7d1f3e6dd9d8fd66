set_option maxRecDepth 100000
/-! THE CHEAPEST WORD, both ways -/
section
variable {C : SV} {M : PM} {ra : Nat}
theorem chp_s (C : SV) (hr m st more : Int32) (k : Nat) : chp C hr m st more (k + 1) = (if (chp C hr m st more k).2 ≤ chf C hr m st more k then (chp C hr m st more k).1 else zn k, imin (chp C hr m st more k).2 (chf C hr m st more k)) := rfl
/-- a word's cost as a number -/
theorem cost_n (h : OKC C) {w : Nat} (hw : w < C.nw) (hr st : Int32) {x : Nat} (hx : x ≤ 99) : ∃ n, n ≤ 1188 ∧ tol C w st hr + zn x * nvo C w = zn n := by
  obtain ⟨n, n1, n2⟩ := tol_b h hw st hr
  obtain ⟨q, q1, q2⟩ := nvo_b h hw
  refine ⟨n + x * q, ?_, by rw [n2, q2, zn_mul, zn_add]⟩
  have : x * q ≤ 99 * 6 := Nat.mul_le_mul hx q1
  omega
/-- none yet, or the first that is cheapest -/
theorem chp_or (h : OKC C) (hr m st : Int32) {x : Nat} (hx : x ≤ 99) : ∀ k, k ≤ C.nw → ((chp C hr m st (zn x) k).1 = -1 ∧ (chp C hr m st (zn x) k).2 = 1000000000 ∧ ∀ w, w < k → ¬ mns C w m) ∨
    (∃ b, b < k ∧ (chp C hr m st (zn x) k).1 = zn b ∧ mns C b m ∧ (chp C hr m st (zn x) k).2 = tol C b st hr + zn x * nvo C b) := by
  intro k
  induction k with
  | zero => intro _; exact Or.inl ⟨rfl, rfl, fun w q => absurd q (by omega)⟩
  | succ k ih =>
    intro hk
    rw [chp_s]
    by_cases hm : mns C k m
    · obtain ⟨n, n1, n2⟩ := cost_n h (show k < C.nw by omega) hr st hx
      have ec : chf C hr m st (zn x) k = tol C k st hr + zn x * nvo C k := if_pos hm
      rcases ih (by omega) with ⟨i1, i2, i3⟩ | ⟨b, i1, i2, i3, i4⟩
      · refine Or.inr ⟨k, by omega, ?_, hm, ?_⟩
        · rw [ec, n2, i2, if_neg (by rw [l_le_zn (by omega) (by omega)]; omega)]
        · rw [ec, n2, i2]
          show imin (zn 1000000000) (zn n) = zn n
          rw [imin_zn (by omega) (by omega), Nat.min_eq_right (by omega)]
      · obtain ⟨n', n1', n2'⟩ := cost_n h (show b < C.nw by omega) hr st hx
        rw [ec, i4, n2, n2', imin_zn (by omega) (by omega)]
        simp only [zn_le (a := n') (b := n) (by omega) (by omega)]
        by_cases g : n' ≤ n
        · refine Or.inr ⟨b, by omega, ?_, i3, ?_⟩
          · show (if n' ≤ n then _ else _) = _
            rw [if_pos g]; exact i2
          · rw [n2']
            show zn (min n' n) = _
            rw [Nat.min_eq_left g]
        · refine Or.inr ⟨k, by omega, ?_, hm, ?_⟩
          · show (if n' ≤ n then _ else _) = _
            rw [if_neg g]
          · rw [n2]
            show zn (min n' n) = _
            rw [Nat.min_eq_right (by omega)]
    · have ec : chf C hr m st (zn x) k = 1000000000 := if_neg hm
      rcases ih (by omega) with ⟨i1, i2, i3⟩ | ⟨b, i1, i2, i3, i4⟩
      · refine Or.inl ⟨?_, ?_, fun w hw => ?_⟩
        · rw [ec, i2, if_pos (by decide)]; exact i1
        · rw [ec, i2]
          show imin 1000000000 1000000000 = 1000000000
          decide
        · rcases Nat.lt_or_eq_of_le (Nat.le_of_lt_succ hw) with q | q
          · exact i3 w q
          · rw [q]; exact hm
      · obtain ⟨n', n1', n2'⟩ := cost_n h (show b < C.nw by omega) hr st hx
        refine Or.inr ⟨b, by omega, ?_, i3, ?_⟩
        · rw [ec, i4, n2', if_pos (by rw [zn_le_l (by omega) (by omega)]; omega)]; exact i2
        · rw [ec, i4, n2']
          show imin (zn n') (zn 1000000000) = _
          rw [imin_zn (by omega) (by omega), Nat.min_eq_left (by omega)]
theorem z_mul (a : Int32) : zn 0 * a = 0 := Int32.zero_mul
theorem chw_or (h : OKC C) (hr m st : Int32) : (chw C hr m st 0 = -1 ∧ ∀ w, w < C.nw → ¬ mns C w m) ∨ ∃ b, b < C.nw ∧ chw C hr m st 0 = zn b ∧ mns C b m := by
  rcases chp_or h hr m st (x := 0) (by omega) C.nw (Nat.le_refl _) with ⟨h1, h2, h3⟩ | ⟨b, h1, h2, h3, h4⟩
  · exact Or.inl ⟨h1, h3⟩
  · exact Or.inr ⟨b, h1, h2, h3⟩
theorem ms_cheapestOf (h : CY ra C M) (m st : Int32) : ∃ M', m_cheapestOf m st M = some (chw C (M.i 73 12) m st 0, M') ∧ Fq ca M M' := by
  have b1 := h.ok.nw10
  obtain ⟨hr, ehr⟩ : ∃ hr, hr = M.i 73 12 := ⟨_, rfl⟩
  rw [← ehr]
  unfold m_cheapestOf
  refine wlp (fun n k (_ : Unit) M2 => m_cheapestOf_L5 m st n (chp C hr m st 0 k).1 (zn k) M2) C.nw FU (FU_lt (by omega)) (fun _ s => s) () (fun _ M2 => Fq ca M M2) (fun o => ∃ M', o = some (chw C hr m st 0, M') ∧ Fq ca M M') (fun n k M2 hk f => ?_) (fun n M2 f => ?_) M Fq.rf
  · show ∃ M', _ ∧ m_cheapestOf_L5 m st (n + 1) (chp C hr m st 0 k).1 (zn k) M2 = m_cheapestOf_L5 m st n (chp C hr m st 0 (k + 1)).1 (zn (k + 1)) M'
    have h2 := h.fa f
    have g : ¬ C.nw ≤ k := by omega
    by_cases hm : mns C k m
    · obtain ⟨n1, n2, n3⟩ := tol_b h.ok hk st hr
      have ec : chf C hr m st 0 k = zn n1 := by
        rw [← n3]
        have : chf C hr m st 0 k = tol C k st hr + 0 * nvo C k := if_pos hm
        rw [this, Int32.zero_mul, Int32.add_zero]
      rcases chp_or h.ok hr m st (x := 0) (by omega) k (by omega) with ⟨i1, i2, i3⟩ | ⟨b, i1, i2, i3, i4⟩
      · have i1' : (chp C hr m st 0 k).1 = -1 := i1
        have i2' : (chp C hr m st 0 k).2 = 1000000000 := i2
        refine ⟨M2, f, ?_⟩
        have e1 : (chp C hr m st 0 (k + 1)).1 = zn k := by
          rw [chp_s, i2', ec]
          show (if (1000000000 : Int32) ≤ zn n1 then _ else _) = _
          rw [if_neg (by rw [l_le_zn (by omega) (by omega)]; omega)]
        rw [e1, i1']
        simp (disch := omega) only [m_cheapestOf_L5, lt_u, jn_u, bd_s, rf_s, nl_s, nl_n, ↓reduceIte, ↓ckb24, ↓ckb256, ckb_T, ckb01, vsi_i, vsi_l, vsi_r, vsi_k, vsi_n, vsi_w, vsl_i, vsl_l, vsl_r, vsl_k, vsl_n, vsl_w, vsr_i, vsr_l, vsr_r, vsr_k, vsr_n, vsr_w, and_self, and_true, true_and, and_false, false_and, or_self, or_true, true_or, or_false, false_or, not_true_eq_false, not_false_eq_true, ne_eq, eq_self, reduceCtorEq, Nat.reduceEqDiff, Nat.reduceAdd, Nat.reduceMul, Nat.reduceSub, Nat.reduceLT, Nat.reduceLeDiff, Nat.reduceDiv, Nat.add_zero, Nat.zero_add, Nat.not_lt_zero, Nat.zero_le, Nat.le_refl, Nat.lt_irrefl, l_eq_l, m_eq_l, l_eq_m, Int32.reduceLT, Int32.reduceLE, Int32.reduceAdd, Int32.reduceSub, Int32.reduceMul, b01_0, b01_1, b10_0, z_ne_o, o_ne_z, zn_add, zn_addl, zn_ladd, zn_mull, zn_subl, ix_zn, ix_l, ck_zn, ck_l, zn_le, zn_le_l, l_le_zn, zn_lt, zn_lt_l, l_lt_zn, zn_eq, zn_eq_l, l_eq_zn, zn_eq_m, m_eq_zn, m_le_zn, zn_lt_m, imin_zn, imax_zn, zn_le_m, h2.nw, ms_means h2 hk, hm, g]
      · have i2' : (chp C hr m st 0 k).1 = zn b := i2
        have i4' : (chp C hr m st 0 k).2 = tol C b st hr := by
          have : (chp C hr m st 0 k).2 = tol C b st hr + zn 0 * nvo C b := i4
          rw [this, z_mul, Int32.add_zero]
        obtain ⟨n1', n2', n3'⟩ := tol_b h.ok (show b < C.nw by omega) st hr
        obtain ⟨M3, e3, f3⟩ := ms_tollNow h2 hk st
        rw [hy_ca f 12, ← ehr, n3] at e3
        have h3 := h2.fa f3
        obtain ⟨M4, e4, f4⟩ := ms_tollNow h3 (show b < C.nw by omega) st
        rw [hy_ca f3 12, hy_ca f 12, ← ehr, n3'] at e4
        refine ⟨M4, (f.tr f3).tr f4, ?_⟩
        have e1 : (chp C hr m st 0 (k + 1)).1 = if n1' ≤ n1 then zn b else zn k := by
          rw [chp_s, i4', ec, i2', n3']
          show (if zn n1' ≤ zn n1 then _ else _) = _
          simp only [zn_le (a := n1') (b := n1) (by omega) (by omega)]
        rw [e1, i2']
        by_cases gg : n1' ≤ n1
        · simp (disch := omega) only [m_cheapestOf_L5, lt_u, jn_u, bd_s, rf_s, nl_s, nl_n, ↓reduceIte, ↓ckb24, ↓ckb256, ckb_T, ckb01, vsi_i, vsi_l, vsi_r, vsi_k, vsi_n, vsi_w, vsl_i, vsl_l, vsl_r, vsl_k, vsl_n, vsl_w, vsr_i, vsr_l, vsr_r, vsr_k, vsr_n, vsr_w, and_self, and_true, true_and, and_false, false_and, or_self, or_true, true_or, or_false, false_or, not_true_eq_false, not_false_eq_true, ne_eq, eq_self, reduceCtorEq, Nat.reduceEqDiff, Nat.reduceAdd, Nat.reduceMul, Nat.reduceSub, Nat.reduceLT, Nat.reduceLeDiff, Nat.reduceDiv, Nat.add_zero, Nat.zero_add, Nat.not_lt_zero, Nat.zero_le, Nat.le_refl, Nat.lt_irrefl, l_eq_l, m_eq_l, l_eq_m, Int32.reduceLT, Int32.reduceLE, Int32.reduceAdd, Int32.reduceSub, Int32.reduceMul, b01_0, b01_1, b10_0, z_ne_o, o_ne_z, zn_add, zn_addl, zn_ladd, zn_mull, zn_subl, ix_zn, ix_l, ck_zn, ck_l, zn_le, zn_le_l, l_le_zn, zn_lt, zn_lt_l, l_lt_zn, zn_eq, zn_eq_l, l_eq_zn, zn_eq_m, m_eq_zn, m_le_zn, zn_lt_m, imin_zn, imax_zn, zn_le_m, h2.nw, ms_means h2 hk, hm, g, e3, e4, gg]
        · simp (disch := omega) only [m_cheapestOf_L5, lt_u, jn_u, bd_s, rf_s, nl_s, nl_n, ↓reduceIte, ↓ckb24, ↓ckb256, ckb_T, ckb01, vsi_i, vsi_l, vsi_r, vsi_k, vsi_n, vsi_w, vsl_i, vsl_l, vsl_r, vsl_k, vsl_n, vsl_w, vsr_i, vsr_l, vsr_r, vsr_k, vsr_n, vsr_w, and_self, and_true, true_and, and_false, false_and, or_self, or_true, true_or, or_false, false_or, not_true_eq_false, not_false_eq_true, ne_eq, eq_self, reduceCtorEq, Nat.reduceEqDiff, Nat.reduceAdd, Nat.reduceMul, Nat.reduceSub, Nat.reduceLT, Nat.reduceLeDiff, Nat.reduceDiv, Nat.add_zero, Nat.zero_add, Nat.not_lt_zero, Nat.zero_le, Nat.le_refl, Nat.lt_irrefl, l_eq_l, m_eq_l, l_eq_m, Int32.reduceLT, Int32.reduceLE, Int32.reduceAdd, Int32.reduceSub, Int32.reduceMul, b01_0, b01_1, b10_0, z_ne_o, o_ne_z, zn_add, zn_addl, zn_ladd, zn_mull, zn_subl, ix_zn, ix_l, ck_zn, ck_l, zn_le, zn_le_l, l_le_zn, zn_lt, zn_lt_l, l_lt_zn, zn_eq, zn_eq_l, l_eq_zn, zn_eq_m, m_eq_zn, m_le_zn, zn_lt_m, imin_zn, imax_zn, zn_le_m, h2.nw, ms_means h2 hk, hm, g, e3, e4, gg]
    · refine ⟨M2, f, ?_⟩
      have ec : chf C hr m st 0 k = 1000000000 := if_neg hm
      have e1 : (chp C hr m st 0 (k + 1)).1 = (chp C hr m st 0 k).1 := by
        rw [chp_s, ec]
        rcases chp_or h.ok hr m st (x := 0) (by omega) k (by omega) with ⟨i1, i2, i3⟩ | ⟨b, i1, i2, i3, i4⟩
        · have i2' : (chp C hr m st 0 k).2 = 1000000000 := i2
          rw [i2']
          show (if (1000000000 : Int32) ≤ 1000000000 then (chp C hr m st 0 k).1 else zn k) = _
          rw [if_pos (by decide)]
        · obtain ⟨n1', n2', n3'⟩ := cost_n h.ok (show b < C.nw by omega) hr st (x := 0) (by omega)
          have i4' : (chp C hr m st 0 k).2 = zn n1' := i4.trans n3'
          rw [i4']
          show (if zn n1' ≤ (1000000000 : Int32) then (chp C hr m st 0 k).1 else zn k) = _
          rw [if_pos (by rw [zn_le_l (by omega) (by omega)]; omega)]
      rw [e1]
      simp (disch := omega) only [m_cheapestOf_L5, lt_u, jn_u, bd_s, rf_s, nl_s, nl_n, ↓reduceIte, ↓ckb24, ↓ckb256, ckb_T, ckb01, vsi_i, vsi_l, vsi_r, vsi_k, vsi_n, vsi_w, vsl_i, vsl_l, vsl_r, vsl_k, vsl_n, vsl_w, vsr_i, vsr_l, vsr_r, vsr_k, vsr_n, vsr_w, and_self, and_true, true_and, and_false, false_and, or_self, or_true, true_or, or_false, false_or, not_true_eq_false, not_false_eq_true, ne_eq, eq_self, reduceCtorEq, Nat.reduceEqDiff, Nat.reduceAdd, Nat.reduceMul, Nat.reduceSub, Nat.reduceLT, Nat.reduceLeDiff, Nat.reduceDiv, Nat.add_zero, Nat.zero_add, Nat.not_lt_zero, Nat.zero_le, Nat.le_refl, Nat.lt_irrefl, l_eq_l, m_eq_l, l_eq_m, Int32.reduceLT, Int32.reduceLE, Int32.reduceAdd, Int32.reduceSub, Int32.reduceMul, b01_0, b01_1, b10_0, z_ne_o, o_ne_z, zn_add, zn_addl, zn_ladd, zn_mull, zn_subl, ix_zn, ix_l, ck_zn, ck_l, zn_le, zn_le_l, l_le_zn, zn_lt, zn_lt_l, l_lt_zn, zn_eq, zn_eq_l, l_eq_zn, zn_eq_m, m_eq_zn, m_le_zn, zn_lt_m, imin_zn, imax_zn, zn_le_m, h2.nw, ms_means h2 hk, hm, g]
  · have h2 := h.fa f
    refine ⟨M2, ?_, f⟩
    simp (disch := omega) only [m_cheapestOf_L5, lt_u, jn_u, bd_s, rf_s, nl_s, nl_n, ↓reduceIte, ↓ckb24, ↓ckb256, ckb_T, ckb01, vsi_i, vsi_l, vsi_r, vsi_k, vsi_n, vsi_w, vsl_i, vsl_l, vsl_r, vsl_k, vsl_n, vsl_w, vsr_i, vsr_l, vsr_r, vsr_k, vsr_n, vsr_w, and_self, and_true, true_and, and_false, false_and, or_self, or_true, true_or, or_false, false_or, not_true_eq_false, not_false_eq_true, ne_eq, eq_self, reduceCtorEq, Nat.reduceEqDiff, Nat.reduceAdd, Nat.reduceMul, Nat.reduceSub, Nat.reduceLT, Nat.reduceLeDiff, Nat.reduceDiv, Nat.add_zero, Nat.zero_add, Nat.not_lt_zero, Nat.zero_le, Nat.le_refl, Nat.lt_irrefl, l_eq_l, m_eq_l, l_eq_m, Int32.reduceLT, Int32.reduceLE, Int32.reduceAdd, Int32.reduceSub, Int32.reduceMul, b01_0, b01_1, b10_0, z_ne_o, o_ne_z, zn_add, zn_addl, zn_ladd, zn_mull, zn_subl, ix_zn, ix_l, ck_zn, ck_l, zn_le, zn_le_l, l_le_zn, zn_lt, zn_lt_l, l_lt_zn, zn_eq, zn_eq_l, l_eq_zn, zn_eq_m, m_eq_zn, m_le_zn, zn_lt_m, imin_zn, imax_zn, zn_le_m, h2.nw]
    rfl
/-! the first errand where one is -/
def ffi (P : Nat → Bool) : Nat → Nat → Option Nat
  | 0, _ => none
  | d + 1, k => if P k = true then some k else ffi P d (k + 1)
theorem ffi_lt (P : Nat → Bool) : ∀ d k e, ffi P d k = some e → e < k + d ∧ P e = true := by
  intro d
  induction d with
  | zero => intro k e h; cases h
  | succ d ih =>
    intro k e h
    unfold ffi at h
    split at h
    · cases h; exact ⟨by omega, by assumption⟩
    · have := ih (k + 1) e h
      exact ⟨by omega, this.2⟩
def wdP (C : SV) (d p at_ : Int32) (e : Nat) : Bool := decide ((((opn C d p) >>> (zn e &&& 31)) &&& 1) = 1) && decide (zn (C.wh e) = at_)
def wdf (C : SV) (hr d p at_ : Int32) : Int32 := match ffi (wdP C d p at_) C.ne 0 with
  | none => -1
  | some e => chw C hr (zn (C.em e)) at_ 0
theorem wdf_or (h : OKC C) (hr d p at_ : Int32) : wdf C hr d p at_ = -1 ∨ ∃ b, b < C.nw ∧ wdf C hr d p at_ = zn b := by
  unfold wdf
  split
  · exact Or.inl rfl
  · rename_i e _
    rcases chw_or h hr (zn (C.em e)) at_ with g | ⟨b, g1, g2, g3⟩
    · exact Or.inl g.1
    · exact Or.inr ⟨b, g1, g2⟩
theorem xs_wordFor (h : CX C M) {t : Nat} (ht : t < C.nt) : ∃ M', x_wordFor (zn t) M = some (wdf C (M.i 21 4) (M.i 21 5) (zn t) (M.i 22 t), M') ∧ Fq ca M M' := by
  have b1 := h.ok.ne8
  have b2 := h.ok.nt4
  have key : ∀ (K : Int32 → PM → Option (Int32 × PM)) d k n, k + d = C.ne → d < n → x_wordFor_L2 (zn t) K n (zn k) M = match ffi (wdP C (M.i 21 5) (zn t) (M.i 22 t)) d k with
      | none => some (-1, M)
      | some e => K (zn e) M := by
    intro K d
    induction d with
    | zero =>
      intro k n hk hn
      obtain ⟨m, rfl⟩ : ∃ m, n = m + 1 := ⟨n - 1, by omega⟩
      have g : C.ne ≤ k := by omega
      simp (disch := omega) only [x_wordFor_L2, lt_u, jn_u, bd_s, rf_s, nl_s, nl_n, ↓reduceIte, ↓ckb24, ↓ckb256, ckb_T, ckb01, vsi_i, vsi_l, vsi_r, vsi_k, vsi_n, vsi_w, vsl_i, vsl_l, vsl_r, vsl_k, vsl_n, vsl_w, vsr_i, vsr_l, vsr_r, vsr_k, vsr_n, vsr_w, and_self, and_true, true_and, and_false, false_and, or_self, or_true, true_or, or_false, false_or, not_true_eq_false, not_false_eq_true, ne_eq, eq_self, reduceCtorEq, Nat.reduceEqDiff, Nat.reduceAdd, Nat.reduceMul, Nat.reduceSub, Nat.reduceLT, Nat.reduceLeDiff, Nat.reduceDiv, Nat.add_zero, Nat.zero_add, Nat.not_lt_zero, Nat.zero_le, Nat.le_refl, Nat.lt_irrefl, l_eq_l, m_eq_l, l_eq_m, Int32.reduceLT, Int32.reduceLE, Int32.reduceAdd, Int32.reduceSub, Int32.reduceMul, b01_0, b01_1, b10_0, z_ne_o, o_ne_z, zn_add, zn_addl, zn_ladd, zn_mull, zn_subl, ix_zn, ix_l, ck_zn, ck_l, zn_le, zn_le_l, l_le_zn, zn_lt, zn_lt_l, l_lt_zn, zn_eq, zn_eq_l, l_eq_zn, zn_eq_m, m_eq_zn, m_le_zn, zn_lt_m, imin_zn, imax_zn, zn_le_m, h.ne, g, ffi]
    | succ d ih =>
      intro k n hk hn
      obtain ⟨m, rfl⟩ : ∃ m, n = m + 1 := ⟨n - 1, by omega⟩
      have g : ¬ C.ne ≤ k := by omega
      have ih := ih (k + 1) m (by omega) (by omega)
      have hw := h.wh k (by omega)
      unfold ffi wdP
      by_cases q1 : (((opn C (M.i 21 5) (zn t)) >>> (zn k &&& 31)) &&& 1) = 1
      · by_cases q2 : zn (C.wh k) = M.i 22 t
        · simp (disch := omega) only [x_wordFor_L2, lt_u, jn_u, bd_s, rf_s, nl_s, nl_n, ↓reduceIte, ↓ckb24, ↓ckb256, ckb_T, ckb01, vsi_i, vsi_l, vsi_r, vsi_k, vsi_n, vsi_w, vsl_i, vsl_l, vsl_r, vsl_k, vsl_n, vsl_w, vsr_i, vsr_l, vsr_r, vsr_k, vsr_n, vsr_w, and_self, and_true, true_and, and_false, false_and, or_self, or_true, true_or, or_false, false_or, not_true_eq_false, not_false_eq_true, ne_eq, eq_self, reduceCtorEq, Nat.reduceEqDiff, Nat.reduceAdd, Nat.reduceMul, Nat.reduceSub, Nat.reduceLT, Nat.reduceLeDiff, Nat.reduceDiv, Nat.add_zero, Nat.zero_add, Nat.not_lt_zero, Nat.zero_le, Nat.le_refl, Nat.lt_irrefl, l_eq_l, m_eq_l, l_eq_m, Int32.reduceLT, Int32.reduceLE, Int32.reduceAdd, Int32.reduceSub, Int32.reduceMul, b01_0, b01_1, b10_0, z_ne_o, o_ne_z, zn_add, zn_addl, zn_ladd, zn_mull, zn_subl, ix_zn, ix_l, ck_zn, ck_l, zn_le, zn_le_l, l_le_zn, zn_lt, zn_lt_l, l_lt_zn, zn_eq, zn_eq_l, l_eq_zn, zn_eq_m, m_eq_zn, m_le_zn, zn_lt_m, imin_zn, imax_zn, zn_le_m, h.ne, g, xs_errandsOf h, xs_has, q1, hw, q2, decide_true, Bool.and_self]
        · simp (disch := omega) only [x_wordFor_L2, lt_u, jn_u, bd_s, rf_s, nl_s, nl_n, ↓reduceIte, ↓ckb24, ↓ckb256, ckb_T, ckb01, vsi_i, vsi_l, vsi_r, vsi_k, vsi_n, vsi_w, vsl_i, vsl_l, vsl_r, vsl_k, vsl_n, vsl_w, vsr_i, vsr_l, vsr_r, vsr_k, vsr_n, vsr_w, and_self, and_true, true_and, and_false, false_and, or_self, or_true, true_or, or_false, false_or, not_true_eq_false, not_false_eq_true, ne_eq, eq_self, reduceCtorEq, Nat.reduceEqDiff, Nat.reduceAdd, Nat.reduceMul, Nat.reduceSub, Nat.reduceLT, Nat.reduceLeDiff, Nat.reduceDiv, Nat.add_zero, Nat.zero_add, Nat.not_lt_zero, Nat.zero_le, Nat.le_refl, Nat.lt_irrefl, l_eq_l, m_eq_l, l_eq_m, Int32.reduceLT, Int32.reduceLE, Int32.reduceAdd, Int32.reduceSub, Int32.reduceMul, b01_0, b01_1, b10_0, z_ne_o, o_ne_z, zn_add, zn_addl, zn_ladd, zn_mull, zn_subl, ix_zn, ix_l, ck_zn, ck_l, zn_le, zn_le_l, l_le_zn, zn_lt, zn_lt_l, l_lt_zn, zn_eq, zn_eq_l, l_eq_zn, zn_eq_m, m_eq_zn, m_le_zn, zn_lt_m, imin_zn, imax_zn, zn_le_m, h.ne, g, xs_errandsOf h, xs_has, q1, hw, q2, decide_true, decide_false, Bool.and_false, Bool.false_eq_true, ih]
          rfl
      · simp (disch := omega) only [x_wordFor_L2, lt_u, jn_u, bd_s, rf_s, nl_s, nl_n, ↓reduceIte, ↓ckb24, ↓ckb256, ckb_T, ckb01, vsi_i, vsi_l, vsi_r, vsi_k, vsi_n, vsi_w, vsl_i, vsl_l, vsl_r, vsl_k, vsl_n, vsl_w, vsr_i, vsr_l, vsr_r, vsr_k, vsr_n, vsr_w, and_self, and_true, true_and, and_false, false_and, or_self, or_true, true_or, or_false, false_or, not_true_eq_false, not_false_eq_true, ne_eq, eq_self, reduceCtorEq, Nat.reduceEqDiff, Nat.reduceAdd, Nat.reduceMul, Nat.reduceSub, Nat.reduceLT, Nat.reduceLeDiff, Nat.reduceDiv, Nat.add_zero, Nat.zero_add, Nat.not_lt_zero, Nat.zero_le, Nat.le_refl, Nat.lt_irrefl, l_eq_l, m_eq_l, l_eq_m, Int32.reduceLT, Int32.reduceLE, Int32.reduceAdd, Int32.reduceSub, Int32.reduceMul, b01_0, b01_1, b10_0, z_ne_o, o_ne_z, zn_add, zn_addl, zn_ladd, zn_mull, zn_subl, ix_zn, ix_l, ck_zn, ck_l, zn_le, zn_le_l, l_le_zn, zn_lt, zn_lt_l, l_lt_zn, zn_eq, zn_eq_l, l_eq_zn, zn_eq_m, m_eq_zn, m_le_zn, zn_lt_m, imin_zn, imax_zn, zn_le_m, h.ne, g, xs_errandsOf h, xs_has, q1, decide_false, Bool.false_and, Bool.false_eq_true, ih]
        rfl
  unfold x_wordFor
  have k0 := key (fun v5 M5 => ck v5 8 <| ck (zn t) 4 <| bd (x_cheapestFor (M5.i 36 (ix v5)) (M5.i 22 (ix (zn t))) 0 M5) fun v6 M6 => some (v6, M6)) C.ne 0 FU (by omega) (FU_lt (by omega))
  have k0' : x_wordFor_L2 (zn t) (fun v5 M5 => ck v5 8 <| ck (zn t) 4 <| bd (x_cheapestFor (M5.i 36 (ix v5)) (M5.i 22 (ix (zn t))) 0 M5) fun v6 M6 => some (v6, M6)) FU 0 M = _ := k0
  rw [k0']
  unfold wdf
  have hf := ffi_lt (wdP C (M.i 21 5) (zn t) (M.i 22 t)) C.ne 0
  revert hf
  generalize ffi (wdP C (M.i 21 5) (zn t) (M.i 22 t)) C.ne 0 = o
  intro hf
  cases o with
  | none => exact ⟨M, rfl, Fq.rf⟩
  | some x =>
    have hx := (hf x rfl).1
    obtain ⟨M', e, f⟩ := xs_cheapestFor h (zn (C.em x)) (M.i 22 t) 0
    refine ⟨M', ?_, f⟩
    have hem := h.em x (by omega)
    simp (disch := omega) only [lt_u, jn_u, bd_s, rf_s, nl_s, nl_n, ↓reduceIte, ↓ckb24, ↓ckb256, ckb_T, ckb01, vsi_i, vsi_l, vsi_r, vsi_k, vsi_n, vsi_w, vsl_i, vsl_l, vsl_r, vsl_k, vsl_n, vsl_w, vsr_i, vsr_l, vsr_r, vsr_k, vsr_n, vsr_w, and_self, and_true, true_and, and_false, false_and, or_self, or_true, true_or, or_false, false_or, not_true_eq_false, not_false_eq_true, ne_eq, eq_self, reduceCtorEq, Nat.reduceEqDiff, Nat.reduceAdd, Nat.reduceMul, Nat.reduceSub, Nat.reduceLT, Nat.reduceLeDiff, Nat.reduceDiv, Nat.add_zero, Nat.zero_add, Nat.not_lt_zero, Nat.zero_le, Nat.le_refl, Nat.lt_irrefl, l_eq_l, m_eq_l, l_eq_m, Int32.reduceLT, Int32.reduceLE, Int32.reduceAdd, Int32.reduceSub, Int32.reduceMul, b01_0, b01_1, b10_0, z_ne_o, o_ne_z, zn_add, zn_addl, zn_ladd, zn_mull, zn_subl, ix_zn, ix_l, ck_zn, ck_l, zn_le, zn_le_l, l_le_zn, zn_lt, zn_lt_l, l_lt_zn, zn_eq, zn_eq_l, l_eq_zn, zn_eq_m, m_eq_zn, m_le_zn, zn_lt_m, imin_zn, imax_zn, zn_le_m, hem, e]
theorem ms_wordFor (h : CY ra C M) {t : Nat} (ht : t < C.nt) : ∃ M', m_wordFor (zn t) M = some (wdf C (M.i 73 12) (M.i 73 13) (zn t) (M.i 73 t), M') ∧ Fq ca M M' := by
  have b1 := h.ok.ne8
  have b2 := h.ok.nt4
  have key : ∀ (K : Int32 → PM → Option (Int32 × PM)) d k n, k + d = C.ne → d < n → m_wordFor_L2 (zn t) K n (zn k) M = match ffi (wdP C (M.i 73 13) (zn t) (M.i 73 t)) d k with
      | none => some (-1, M)
      | some e => K (zn e) M := by
    intro K d
    induction d with
    | zero =>
      intro k n hk hn
      obtain ⟨m, rfl⟩ : ∃ m, n = m + 1 := ⟨n - 1, by omega⟩
      have g : C.ne ≤ k := by omega
      simp (disch := omega) only [m_wordFor_L2, lt_u, jn_u, bd_s, rf_s, nl_s, nl_n, ↓reduceIte, ↓ckb24, ↓ckb256, ckb_T, ckb01, vsi_i, vsi_l, vsi_r, vsi_k, vsi_n, vsi_w, vsl_i, vsl_l, vsl_r, vsl_k, vsl_n, vsl_w, vsr_i, vsr_l, vsr_r, vsr_k, vsr_n, vsr_w, and_self, and_true, true_and, and_false, false_and, or_self, or_true, true_or, or_false, false_or, not_true_eq_false, not_false_eq_true, ne_eq, eq_self, reduceCtorEq, Nat.reduceEqDiff, Nat.reduceAdd, Nat.reduceMul, Nat.reduceSub, Nat.reduceLT, Nat.reduceLeDiff, Nat.reduceDiv, Nat.add_zero, Nat.zero_add, Nat.not_lt_zero, Nat.zero_le, Nat.le_refl, Nat.lt_irrefl, l_eq_l, m_eq_l, l_eq_m, Int32.reduceLT, Int32.reduceLE, Int32.reduceAdd, Int32.reduceSub, Int32.reduceMul, b01_0, b01_1, b10_0, z_ne_o, o_ne_z, zn_add, zn_addl, zn_ladd, zn_mull, zn_subl, ix_zn, ix_l, ck_zn, ck_l, zn_le, zn_le_l, l_le_zn, zn_lt, zn_lt_l, l_lt_zn, zn_eq, zn_eq_l, l_eq_zn, zn_eq_m, m_eq_zn, m_le_zn, zn_lt_m, imin_zn, imax_zn, zn_le_m, h.ne, g, ffi]
    | succ d ih =>
      intro k n hk hn
      obtain ⟨m, rfl⟩ : ∃ m, n = m + 1 := ⟨n - 1, by omega⟩
      have g : ¬ C.ne ≤ k := by omega
      have ih := ih (k + 1) m (by omega) (by omega)
      unfold ffi wdP
      by_cases q1 : (((opn C (M.i 73 13) (zn t)) >>> (zn k &&& 31)) &&& 1) = 1
      · by_cases q2 : zn (C.wh k) = M.i 73 t
        · simp (disch := omega) only [m_wordFor_L2, lt_u, jn_u, bd_s, rf_s, nl_s, nl_n, ↓reduceIte, ↓ckb24, ↓ckb256, ckb_T, ckb01, vsi_i, vsi_l, vsi_r, vsi_k, vsi_n, vsi_w, vsl_i, vsl_l, vsl_r, vsl_k, vsl_n, vsl_w, vsr_i, vsr_l, vsr_r, vsr_k, vsr_n, vsr_w, and_self, and_true, true_and, and_false, false_and, or_self, or_true, true_or, or_false, false_or, not_true_eq_false, not_false_eq_true, ne_eq, eq_self, reduceCtorEq, Nat.reduceEqDiff, Nat.reduceAdd, Nat.reduceMul, Nat.reduceSub, Nat.reduceLT, Nat.reduceLeDiff, Nat.reduceDiv, Nat.add_zero, Nat.zero_add, Nat.not_lt_zero, Nat.zero_le, Nat.le_refl, Nat.lt_irrefl, l_eq_l, m_eq_l, l_eq_m, Int32.reduceLT, Int32.reduceLE, Int32.reduceAdd, Int32.reduceSub, Int32.reduceMul, b01_0, b01_1, b10_0, z_ne_o, o_ne_z, zn_add, zn_addl, zn_ladd, zn_mull, zn_subl, ix_zn, ix_l, ck_zn, ck_l, zn_le, zn_le_l, l_le_zn, zn_lt, zn_lt_l, l_lt_zn, zn_eq, zn_eq_l, l_eq_zn, zn_eq_m, m_eq_zn, m_le_zn, zn_lt_m, imin_zn, imax_zn, zn_le_m, h.ne, g, ms_openOf h (kd73 h.sh), ms_has, q1, ms_field2 h (show k < C.ne by omega), q2, decide_true, Bool.and_self]
        · simp (disch := omega) only [m_wordFor_L2, lt_u, jn_u, bd_s, rf_s, nl_s, nl_n, ↓reduceIte, ↓ckb24, ↓ckb256, ckb_T, ckb01, vsi_i, vsi_l, vsi_r, vsi_k, vsi_n, vsi_w, vsl_i, vsl_l, vsl_r, vsl_k, vsl_n, vsl_w, vsr_i, vsr_l, vsr_r, vsr_k, vsr_n, vsr_w, and_self, and_true, true_and, and_false, false_and, or_self, or_true, true_or, or_false, false_or, not_true_eq_false, not_false_eq_true, ne_eq, eq_self, reduceCtorEq, Nat.reduceEqDiff, Nat.reduceAdd, Nat.reduceMul, Nat.reduceSub, Nat.reduceLT, Nat.reduceLeDiff, Nat.reduceDiv, Nat.add_zero, Nat.zero_add, Nat.not_lt_zero, Nat.zero_le, Nat.le_refl, Nat.lt_irrefl, l_eq_l, m_eq_l, l_eq_m, Int32.reduceLT, Int32.reduceLE, Int32.reduceAdd, Int32.reduceSub, Int32.reduceMul, b01_0, b01_1, b10_0, z_ne_o, o_ne_z, zn_add, zn_addl, zn_ladd, zn_mull, zn_subl, ix_zn, ix_l, ck_zn, ck_l, zn_le, zn_le_l, l_le_zn, zn_lt, zn_lt_l, l_lt_zn, zn_eq, zn_eq_l, l_eq_zn, zn_eq_m, m_eq_zn, m_le_zn, zn_lt_m, imin_zn, imax_zn, zn_le_m, h.ne, g, ms_openOf h (kd73 h.sh), ms_has, q1, ms_field2 h (show k < C.ne by omega), q2, decide_true, decide_false, Bool.and_false, Bool.false_eq_true, ih]
          rfl
      · simp (disch := omega) only [m_wordFor_L2, lt_u, jn_u, bd_s, rf_s, nl_s, nl_n, ↓reduceIte, ↓ckb24, ↓ckb256, ckb_T, ckb01, vsi_i, vsi_l, vsi_r, vsi_k, vsi_n, vsi_w, vsl_i, vsl_l, vsl_r, vsl_k, vsl_n, vsl_w, vsr_i, vsr_l, vsr_r, vsr_k, vsr_n, vsr_w, and_self, and_true, true_and, and_false, false_and, or_self, or_true, true_or, or_false, false_or, not_true_eq_false, not_false_eq_true, ne_eq, eq_self, reduceCtorEq, Nat.reduceEqDiff, Nat.reduceAdd, Nat.reduceMul, Nat.reduceSub, Nat.reduceLT, Nat.reduceLeDiff, Nat.reduceDiv, Nat.add_zero, Nat.zero_add, Nat.not_lt_zero, Nat.zero_le, Nat.le_refl, Nat.lt_irrefl, l_eq_l, m_eq_l, l_eq_m, Int32.reduceLT, Int32.reduceLE, Int32.reduceAdd, Int32.reduceSub, Int32.reduceMul, b01_0, b01_1, b10_0, z_ne_o, o_ne_z, zn_add, zn_addl, zn_ladd, zn_mull, zn_subl, ix_zn, ix_l, ck_zn, ck_l, zn_le, zn_le_l, l_le_zn, zn_lt, zn_lt_l, l_lt_zn, zn_eq, zn_eq_l, l_eq_zn, zn_eq_m, m_eq_zn, m_le_zn, zn_lt_m, imin_zn, imax_zn, zn_le_m, h.ne, g, ms_openOf h (kd73 h.sh), ms_has, q1, decide_false, Bool.false_and, Bool.false_eq_true, ih]
        rfl
  unfold m_wordFor
  have k0 := key (fun v6 M6 => bd (m_field v6 1 M6) fun v7 M7 => ck (zn t) 44 <| bd (m_cheapestOf v7 (M7.i 73 (ix (zn t))) M7) fun v8 M8 => some (v8, M8)) C.ne 0 FU (by omega) (FU_lt (by omega))
  have k0' : m_wordFor_L2 (zn t) (fun v6 M6 => bd (m_field v6 1 M6) fun v7 M7 => ck (zn t) 44 <| bd (m_cheapestOf v7 (M7.i 73 (ix (zn t))) M7) fun v8 M8 => some (v8, M8)) FU 0 M = _ := k0
  rw [k0']
  unfold wdf
  have hf := ffi_lt (wdP C (M.i 73 13) (zn t) (M.i 73 t)) C.ne 0
  revert hf
  generalize ffi (wdP C (M.i 73 13) (zn t) (M.i 73 t)) C.ne 0 = o
  intro hf
  cases o with
  | none => exact ⟨M, rfl, Fq.rf⟩
  | some x =>
    have hx := (hf x rfl).1
    obtain ⟨M', e, f⟩ := ms_cheapestOf h (zn (C.em x)) (M.i 73 t)
    refine ⟨M', ?_, f⟩
    simp (disch := omega) only [lt_u, jn_u, bd_s, rf_s, nl_s, nl_n, ↓reduceIte, ↓ckb24, ↓ckb256, ckb_T, ckb01, vsi_i, vsi_l, vsi_r, vsi_k, vsi_n, vsi_w, vsl_i, vsl_l, vsl_r, vsl_k, vsl_n, vsl_w, vsr_i, vsr_l, vsr_r, vsr_k, vsr_n, vsr_w, and_self, and_true, true_and, and_false, false_and, or_self, or_true, true_or, or_false, false_or, not_true_eq_false, not_false_eq_true, ne_eq, eq_self, reduceCtorEq, Nat.reduceEqDiff, Nat.reduceAdd, Nat.reduceMul, Nat.reduceSub, Nat.reduceLT, Nat.reduceLeDiff, Nat.reduceDiv, Nat.add_zero, Nat.zero_add, Nat.not_lt_zero, Nat.zero_le, Nat.le_refl, Nat.lt_irrefl, l_eq_l, m_eq_l, l_eq_m, Int32.reduceLT, Int32.reduceLE, Int32.reduceAdd, Int32.reduceSub, Int32.reduceMul, b01_0, b01_1, b10_0, z_ne_o, o_ne_z, zn_add, zn_addl, zn_ladd, zn_mull, zn_subl, ix_zn, ix_l, ck_zn, ck_l, zn_le, zn_le_l, l_le_zn, zn_lt, zn_lt_l, l_lt_zn, zn_eq, zn_eq_l, l_eq_zn, zn_eq_m, m_eq_zn, m_le_zn, zn_lt_m, imin_zn, imax_zn, zn_le_m, ms_field1 h (show x < C.ne by omega), e]
end
