set_option maxRecDepth 100000
/-! WORDS FOR WHAT IS WORKED OUT -/
def vow (l : Nat) : Int32 := if l = 0 then 0 else if l = 4 then 1 else if l = 8 then 2 else if l = 14 then 3 else if l = 20 then 4 else -1
theorem vow_or (l : Nat) : vow l = -1 ∨ ∃ v, v < 5 ∧ vow l = zn v := by
  unfold vow
  repeat' split
  · exact Or.inr ⟨0, by omega, rfl⟩
  · exact Or.inr ⟨1, by omega, rfl⟩
  · exact Or.inr ⟨2, by omega, rfl⟩
  · exact Or.inr ⟨3, by omega, rfl⟩
  · exact Or.inr ⟨4, by omega, rfl⟩
  · exact Or.inl rfl
abbrev mns (C : SV) (w : Nat) (m : Int32) : Prop := zn (C.mn w) = m ∨ C.sc w = m
/-- how many vowels; how often a vowel -/
def nvo (C : SV) (w : Nat) : Int32 := itr (fun k s => s + (if vow (C.lt w k) < 0 then 0 else 1)) (C.len w) 0
def oft (C : SV) (w : Nat) (v : Int32) : Int32 := itr (fun k s => s + (if vow (C.lt w k) = v then 1 else 0)) (C.len w) 0
def opn (C : SV) (d p : Int32) : Int32 := itr (fun e s => s ||| (if zn (C.who e) = p then (if ((d >>> (zn e &&& 31)) &&& 1) = 1 then 0 else (1 : Int32) <<< (zn e &&& 31)) else 0)) C.ne 0
def dob (C : SV) (d p st : Int32) (w : Nat) : Int32 := itr (fun e s => s ||| (if zn (C.who e) = p then (if zn (C.wh e) = st then (if ((d >>> (zn e &&& 31)) &&& 1) = 1 then 0 else (if mns C w (zn (C.em e)) then (1 : Int32) <<< (zn e &&& 31) else 0)) else 0) else 0)) C.ne 0
def nvb (C : SV) (w k : Nat) : Nat := itr (fun j s => if vow (C.lt w j) = -1 then s else s + 1) k 0
def akd (C : SV) (w : Nat) (st hr : Int32) (k : Nat) : Nat → Int32 := fun i => match i with
  | 0 => vow (C.lt w k)
  | 1 => st
  | 2 => hr - hr / 24 * 24
  | 3 => zn (C.len w)
  | 4 => zn k
  | 5 => zn (nvb C w k)
  | 6 => if 0 < k ∧ C.lt w k = C.lt w (k - 1) then 1 else 0
  | _ => 0
def cst (C : SV) (w : Nat) (st hr : Int32) (k : Nat) : Int32 := if C.rl = 0 then vow (C.lt w k) + 1 else imax 0 (imin 99 (C.ru (akd C w st hr k)))
def tlp (C : SV) (w : Nat) (st hr : Int32) (k : Nat) : Int32 := itr (fun j s => if vow (C.lt w j) = -1 then s else s + cst C w st hr j) k 0
def tol (C : SV) (w : Nat) (st hr : Int32) : Int32 := tlp C w st hr (C.len w)
def tvp (C : SV) (w : Nat) (st hr v : Int32) (k : Nat) : Int32 := itr (fun j s => if vow (C.lt w j) = v then s + cst C w st hr j else s) k 0
def tov (C : SV) (w : Nat) (st hr v : Int32) : Int32 := tvp C w st hr v (C.len w)
theorem imx_or (v : Int32) : ∃ n, n ≤ 99 ∧ imax 0 (imin 99 v) = zn n := by
  unfold imax imin
  by_cases h : v < 99
  · rw [if_pos h]
    by_cases g : 0 < v
    · rw [if_pos g]
      have g2 : 0 ≤ v := Int32.le_of_lt g
      refine ⟨ix v, ?_, (zn_ix g2).symm⟩
      rw [← zn_ix g2] at h
      have : zn (ix v) < zn 99 := h
      rw [zn_lt (ix_lt v) (by omega)] at this
      omega
    · rw [if_neg g]
      exact ⟨0, by omega, rfl⟩
  · rw [if_neg h]
    exact ⟨99, by omega, by decide⟩
theorem cst_or (C : SV) (w : Nat) (st hr : Int32) (k : Nat) : ∃ n, n ≤ 99 ∧ (vow (C.lt w k) = -1 ∨ cst C w st hr k = zn n) := by
  unfold cst
  split
  · rcases vow_or (C.lt w k) with h | ⟨v, hv, h⟩
    · exact ⟨0, by omega, Or.inl h⟩
    · exact ⟨v + 1, by omega, Or.inr (by rw [h]; exact zn_addl v 1)⟩
  · obtain ⟨n, h1, h2⟩ := imx_or (C.ru (akd C w st hr k))
    exact ⟨n, h1, Or.inr h2⟩
theorem tlp_b (C : SV) (w : Nat) (st hr : Int32) (k : Nat) : ∃ n, n ≤ 99 * k ∧ tlp C w st hr k = zn n := by
  unfold tlp
  refine itr_inv (fun k s => ∃ n, n ≤ 99 * k ∧ s = zn n) ⟨0, by omega, rfl⟩ (fun j _ a ⟨n, h1, h2⟩ => ?_)
  subst h2
  obtain ⟨m, g1, g2⟩ := cst_or C w st hr j
  split
  · exact ⟨n, by omega, rfl⟩
  · rcases g2 with g2 | g2
    · contradiction
    · exact ⟨n + m, by omega, by rw [g2, zn_add]⟩
theorem tol_b {C : SV} (hC : OKC C) {w : Nat} (hw : w < C.nw) (st hr : Int32) : ∃ n, n ≤ 594 ∧ tol C w st hr = zn n := by
  obtain ⟨n, h1, h2⟩ := tlp_b C w st hr (C.len w)
  have := hC.len6 w hw
  exact ⟨n, by omega, h2⟩
theorem nvo_b {C : SV} (hC : OKC C) {w : Nat} (hw : w < C.nw) : ∃ n, n ≤ 6 ∧ nvo C w = zn n := by
  have h : ∃ n, n ≤ C.len w ∧ nvo C w = zn n := by
    unfold nvo
    refine itr_inv (fun k s => ∃ n, n ≤ k ∧ s = zn n) ⟨0, by omega, rfl⟩ (fun j _ a ⟨n, h1, h2⟩ => ?_)
    subst h2
    split
    · exact ⟨n, by omega, by rw [show (0 : Int32) = zn 0 from rfl, zn_add]; rfl⟩
    · exact ⟨n + 1, by omega, by rw [show (1 : Int32) = zn 1 from rfl, zn_add]⟩
  obtain ⟨n, h1, h2⟩ := h
  have := hC.len6 w hw
  exact ⟨n, by omega, h2⟩
/-- the cheapest word of a meaning, each vowel so much dearer: which, how dear -/
def chf (C : SV) (hr m st more : Int32) (w : Nat) : Int32 := if mns C w m then tol C w st hr + more * nvo C w else 1000000000
def chp (C : SV) (hr m st more : Int32) (n : Nat) : Int32 × Int32 := itr (fun w s => (if s.2 ≤ chf C hr m st more w then s.1 else zn w, imin s.2 (chf C hr m st more w))) n (-1, 1000000000)
def chw (C : SV) (hr m st more : Int32) : Int32 := (chp C hr m st more C.nw).1
/-! THE SYSTEM'S READERS -/
section
variable {C : SV} {M : PM}
theorem xs_has (b k : Int32) (M : PM) : x_has b k M = some (if ((b >>> (k &&& 31)) &&& 1) = 1 then 1 else 0, M) := by
  unfold x_has
  split <;> rfl
theorem xs_isStation (h : CX C M) (p : Int32) : x_isStation p M = some (if 0 ≤ p ∧ p ≤ zn C.ns - 1 then 1 else 0, M) := by
  unfold x_isStation
  simp only [h.ns, x_in0, bd_s, ckb01]
theorem xs_isWord (h : CX C M) (p : Int32) : x_isWord p M = some (if 0 ≤ p ∧ p ≤ zn C.nw - 1 then 1 else 0, M) := by
  unfold x_isWord
  simp only [h.nw, x_in0, bd_s, ckb01]
theorem xs_isTraveller (h : CX C M) (p : Int32) : x_isTraveller p M = some (if 0 ≤ p ∧ p ≤ zn C.nt - 1 then 1 else 0, M) := by
  unfold x_isTraveller
  simp only [h.nt, x_in0, bd_s, ckb01]
theorem xs_means (h : CX C M) {w : Nat} (hw : w < C.nw) (m : Int32) : x_means (zn w) m M = some (if mns C w m then 1 else 0, M) := by
  have b1 := h.ok.nw10
  unfold x_means
  simp (disch := omega) only [lt_u, jn_u, bd_s, rf_s, nl_s, nl_n, ↓reduceIte, ↓ckb24, ↓ckb256, ckb_T, ckb01, vsi_i, vsi_l, vsi_r, vsi_k, vsi_n, vsi_w, vsl_i, vsl_l, vsl_r, vsl_k, vsl_n, vsl_w, vsr_i, vsr_l, vsr_r, vsr_k, vsr_n, vsr_w, and_self, and_true, true_and, and_false, false_and, or_self, or_true, true_or, or_false, false_or, not_true_eq_false, not_false_eq_true, ne_eq, eq_self, reduceCtorEq, Nat.reduceEqDiff, Nat.reduceAdd, Nat.reduceMul, Nat.reduceSub, Nat.reduceLT, Nat.reduceLeDiff, Nat.reduceDiv, Nat.add_zero, Nat.zero_add, Nat.not_lt_zero, Nat.zero_le, Nat.le_refl, Nat.lt_irrefl, l_eq_l, m_eq_l, l_eq_m, Int32.reduceLT, Int32.reduceLE, Int32.reduceAdd, Int32.reduceSub, Int32.reduceMul, b01_0, b01_1, b10_0, z_ne_o, o_ne_z, zn_add, zn_addl, zn_ladd, zn_mull, zn_subl, ix_zn, ix_l, ck_zn, ck_l, zn_le, zn_le_l, l_le_zn, zn_lt, zn_lt_l, l_lt_zn, zn_eq, zn_eq_l, l_eq_zn, zn_eq_m, m_eq_zn, m_le_zn, zn_lt_m, imin_zn, imax_zn, zn_le_m, h.mn, h.sc]
  unfold mns
  repeat' split
  all_goals first | rfl | simp_all
/-! strings -/
theorem s_ioc_M (i : Nat) (b to : Int32) (M : PM) : ∀ n j, s_ioc_L i b to n j M = (s_ioc_L i b to n j PM0).map (fun p => (p.1, M)) := by
  intro n
  induction n with
  | zero => intro j; rfl
  | succ n ih =>
    intro j
    unfold s_ioc_L
    split
    · rfl
    · unfold ck
      split
      · rfl
      · split
        · rfl
        · exact ih (j + 1)
theorem s_indexOf_M (i : Nat) (c : Int32) (M : PM) : s_indexOf i c M = (s_indexOf i c PM0).map (fun p => (p.1, M)) := by
  unfold s_indexOf
  split
  · unfold s_io2 s_isLatin1 s_length s_coder s_lio s_canEncode s_ioc
    simp only [bd_s]
    split
    · simp [bd]
    · split
      · simp only [bd_s]
        repeat' split
        all_goals first | exact absurd trivial ‹¬ True› | (simp [bd]; done)
      · split
        · simp only [bd_s]
          repeat' split
          all_goals first | exact absurd trivial ‹¬ True› | (simp [bd]; done)
        · simp only [bd_s]
          split
          · rfl
          · split
            · rfl
            · rw [s_ioc_M]
              generalize s_ioc_L _ _ _ _ _ PM0 = q
              cases q <;> rfl
  · rfl
def idx (i : Nat) (c : Int32) : Int32 := match s_indexOf i c PM0 with
  | some p => p.1
  | none => 77
theorem s_idx {i : Nat} {c : Int32} (h : (s_indexOf i c PM0).isSome = true) (M : PM) : s_indexOf i c M = some (idx i c, M) := by
  rw [s_indexOf_M]
  unfold idx
  generalize s_indexOf i c PM0 = q at h
  cases q with
  | none => cases h
  | some p => rfl
theorem idx7 : ∀ l, l < 26 → (s_indexOf 7 (zn (97 + l)) PM0).isSome = true ∧ idx 7 (zn (97 + l)) = vow l := by decide +kernel
theorem xs_vowelAt (h : CX C M) {w k : Nat} (hw : w < C.nw) (hk : k < C.len w) : x_vowelAt (zn w) (zn k) M = some (vow (C.lt w k), M) := by
  have b1 := h.ok.nw10
  have b2 := h.ok.len6 w hw
  have b3 := h.ok.lt26 w hw k hk
  unfold x_vowelAt
  simp (disch := omega) only [lt_u, jn_u, bd_s, rf_s, nl_s, nl_n, ↓reduceIte, ↓ckb24, ↓ckb256, ckb_T, ckb01, vsi_i, vsi_l, vsi_r, vsi_k, vsi_n, vsi_w, vsl_i, vsl_l, vsl_r, vsl_k, vsl_n, vsl_w, vsr_i, vsr_l, vsr_r, vsr_k, vsr_n, vsr_w, and_self, and_true, true_and, and_false, false_and, or_self, or_true, true_or, or_false, false_or, not_true_eq_false, not_false_eq_true, ne_eq, eq_self, reduceCtorEq, Nat.reduceEqDiff, Nat.reduceAdd, Nat.reduceMul, Nat.reduceSub, Nat.reduceLT, Nat.reduceLeDiff, Nat.reduceDiv, Nat.add_zero, Nat.zero_add, Nat.not_lt_zero, Nat.zero_le, Nat.le_refl, Nat.lt_irrefl, l_eq_l, m_eq_l, l_eq_m, Int32.reduceLT, Int32.reduceLE, Int32.reduceAdd, Int32.reduceSub, Int32.reduceMul, b01_0, b01_1, b10_0, z_ne_o, o_ne_z, zn_add, zn_addl, zn_ladd, zn_mull, zn_subl, ix_zn, ix_l, ck_zn, ck_l, zn_le, zn_le_l, l_le_zn, zn_lt, zn_lt_l, l_lt_zn, zn_eq, zn_eq_l, l_eq_zn, zn_eq_m, m_eq_zn, m_le_zn, zn_lt_m, imin_zn, imax_zn, zn_le_m, h.lt]
  obtain ⟨e1, e2⟩ := idx7 _ b3
  rw [s_idx e1, e2]
  rfl
theorem xs_vowelsOf (h : CX C M) {w : Nat} (hw : w < C.nw) : x_vowelsOf (zn w) M = some (nvo C w, M) := by
  have b1 := h.ok.nw10
  have b2 := h.ok.len6 w hw
  unfold x_vowelsOf
  refine nlp (fun n k s => x_vowelsOf_L4 (zn w) n s (zn k) M) (C.len w) FU (FU_lt (by omega)) (fun k s => s + (if vow (C.lt w k) < 0 then 0 else 1)) 0 _ (fun n k hk => ?_) (fun n => ?_)
  · simp (disch := omega) only [x_vowelsOf_L4, lt_u, jn_u, bd_s, rf_s, nl_s, nl_n, ↓reduceIte, ↓ckb24, ↓ckb256, ckb_T, ckb01, vsi_i, vsi_l, vsi_r, vsi_k, vsi_n, vsi_w, vsl_i, vsl_l, vsl_r, vsl_k, vsl_n, vsl_w, vsr_i, vsr_l, vsr_r, vsr_k, vsr_n, vsr_w, and_self, and_true, true_and, and_false, false_and, or_self, or_true, true_or, or_false, false_or, not_true_eq_false, not_false_eq_true, ne_eq, eq_self, reduceCtorEq, Nat.reduceEqDiff, Nat.reduceAdd, Nat.reduceMul, Nat.reduceSub, Nat.reduceLT, Nat.reduceLeDiff, Nat.reduceDiv, Nat.add_zero, Nat.zero_add, Nat.not_lt_zero, Nat.zero_le, Nat.le_refl, Nat.lt_irrefl, l_eq_l, m_eq_l, l_eq_m, Int32.reduceLT, Int32.reduceLE, Int32.reduceAdd, Int32.reduceSub, Int32.reduceMul, b01_0, b01_1, b10_0, z_ne_o, o_ne_z, zn_add, zn_addl, zn_ladd, zn_mull, zn_subl, ix_zn, ix_l, ck_zn, ck_l, zn_le, zn_le_l, l_le_zn, zn_lt, zn_lt_l, l_lt_zn, zn_eq, zn_eq_l, l_eq_zn, zn_eq_m, m_eq_zn, m_le_zn, zn_lt_m, imin_zn, imax_zn, zn_le_m, h.len, xs_vowelAt h hw hk]
    simp (disch := omega) only [show ¬ C.len w ≤ k by omega, ↓reduceIte]
  · simp (disch := omega) only [x_vowelsOf_L4, lt_u, jn_u, bd_s, rf_s, nl_s, nl_n, ↓reduceIte, ↓ckb24, ↓ckb256, ckb_T, ckb01, vsi_i, vsi_l, vsi_r, vsi_k, vsi_n, vsi_w, vsl_i, vsl_l, vsl_r, vsl_k, vsl_n, vsl_w, vsr_i, vsr_l, vsr_r, vsr_k, vsr_n, vsr_w, and_self, and_true, true_and, and_false, false_and, or_self, or_true, true_or, or_false, false_or, not_true_eq_false, not_false_eq_true, ne_eq, eq_self, reduceCtorEq, Nat.reduceEqDiff, Nat.reduceAdd, Nat.reduceMul, Nat.reduceSub, Nat.reduceLT, Nat.reduceLeDiff, Nat.reduceDiv, Nat.add_zero, Nat.zero_add, Nat.not_lt_zero, Nat.zero_le, Nat.le_refl, Nat.lt_irrefl, l_eq_l, m_eq_l, l_eq_m, Int32.reduceLT, Int32.reduceLE, Int32.reduceAdd, Int32.reduceSub, Int32.reduceMul, b01_0, b01_1, b10_0, z_ne_o, o_ne_z, zn_add, zn_addl, zn_ladd, zn_mull, zn_subl, ix_zn, ix_l, ck_zn, ck_l, zn_le, zn_le_l, l_le_zn, zn_lt, zn_lt_l, l_lt_zn, zn_eq, zn_eq_l, l_eq_zn, zn_eq_m, m_eq_zn, m_le_zn, zn_lt_m, imin_zn, imax_zn, zn_le_m, h.len]
    rfl
theorem xs_vowelIn (h : CX C M) {w : Nat} (hw : w < C.nw) (v : Int32) : x_vowelIn (zn w) v M = some (oft C w v, M) := by
  have b1 := h.ok.nw10
  have b2 := h.ok.len6 w hw
  unfold x_vowelIn
  refine nlp (fun n k s => x_vowelIn_L5 (zn w) v n s (zn k) M) (C.len w) FU (FU_lt (by omega)) (fun k s => s + (if vow (C.lt w k) = v then 1 else 0)) 0 _ (fun n k hk => ?_) (fun n => ?_)
  · simp (disch := omega) only [x_vowelIn_L5, lt_u, jn_u, bd_s, rf_s, nl_s, nl_n, ↓reduceIte, ↓ckb24, ↓ckb256, ckb_T, ckb01, vsi_i, vsi_l, vsi_r, vsi_k, vsi_n, vsi_w, vsl_i, vsl_l, vsl_r, vsl_k, vsl_n, vsl_w, vsr_i, vsr_l, vsr_r, vsr_k, vsr_n, vsr_w, and_self, and_true, true_and, and_false, false_and, or_self, or_true, true_or, or_false, false_or, not_true_eq_false, not_false_eq_true, ne_eq, eq_self, reduceCtorEq, Nat.reduceEqDiff, Nat.reduceAdd, Nat.reduceMul, Nat.reduceSub, Nat.reduceLT, Nat.reduceLeDiff, Nat.reduceDiv, Nat.add_zero, Nat.zero_add, Nat.not_lt_zero, Nat.zero_le, Nat.le_refl, Nat.lt_irrefl, l_eq_l, m_eq_l, l_eq_m, Int32.reduceLT, Int32.reduceLE, Int32.reduceAdd, Int32.reduceSub, Int32.reduceMul, b01_0, b01_1, b10_0, z_ne_o, o_ne_z, zn_add, zn_addl, zn_ladd, zn_mull, zn_subl, ix_zn, ix_l, ck_zn, ck_l, zn_le, zn_le_l, l_le_zn, zn_lt, zn_lt_l, l_lt_zn, zn_eq, zn_eq_l, l_eq_zn, zn_eq_m, m_eq_zn, m_le_zn, zn_lt_m, imin_zn, imax_zn, zn_le_m, h.len, xs_vowelAt h hw hk]
    simp (disch := omega) only [show ¬ C.len w ≤ k by omega, ↓reduceIte]
  · simp (disch := omega) only [x_vowelIn_L5, lt_u, jn_u, bd_s, rf_s, nl_s, nl_n, ↓reduceIte, ↓ckb24, ↓ckb256, ckb_T, ckb01, vsi_i, vsi_l, vsi_r, vsi_k, vsi_n, vsi_w, vsl_i, vsl_l, vsl_r, vsl_k, vsl_n, vsl_w, vsr_i, vsr_l, vsr_r, vsr_k, vsr_n, vsr_w, and_self, and_true, true_and, and_false, false_and, or_self, or_true, true_or, or_false, false_or, not_true_eq_false, not_false_eq_true, ne_eq, eq_self, reduceCtorEq, Nat.reduceEqDiff, Nat.reduceAdd, Nat.reduceMul, Nat.reduceSub, Nat.reduceLT, Nat.reduceLeDiff, Nat.reduceDiv, Nat.add_zero, Nat.zero_add, Nat.not_lt_zero, Nat.zero_le, Nat.le_refl, Nat.lt_irrefl, l_eq_l, m_eq_l, l_eq_m, Int32.reduceLT, Int32.reduceLE, Int32.reduceAdd, Int32.reduceSub, Int32.reduceMul, b01_0, b01_1, b10_0, z_ne_o, o_ne_z, zn_add, zn_addl, zn_ladd, zn_mull, zn_subl, ix_zn, ix_l, ck_zn, ck_l, zn_le, zn_le_l, l_le_zn, zn_lt, zn_lt_l, l_lt_zn, zn_eq, zn_eq_l, l_eq_zn, zn_eq_m, m_eq_zn, m_le_zn, zn_lt_m, imin_zn, imax_zn, zn_le_m, h.len]
    rfl
theorem xs_errandsOf (h : CX C M) (p : Int32) : x_errandsOf p M = some (opn C (M.i 21 5) p, M) := by
  have b1 := h.ok.ne8
  unfold x_errandsOf
  refine nlp (fun n k s => x_errandsOf_L4 p n s (zn k) M) C.ne FU (FU_lt (by omega)) (fun e s => s ||| (if zn (C.who e) = p then (if (((M.i 21 5) >>> (zn e &&& 31)) &&& 1) = 1 then 0 else (1 : Int32) <<< (zn e &&& 31)) else 0)) 0 _ (fun n k hk => ?_) (fun n => ?_)
  · simp (disch := omega) only [x_errandsOf_L4, lt_u, jn_u, bd_s, rf_s, nl_s, nl_n, ↓reduceIte, ↓ckb24, ↓ckb256, ckb_T, ckb01, vsi_i, vsi_l, vsi_r, vsi_k, vsi_n, vsi_w, vsl_i, vsl_l, vsl_r, vsl_k, vsl_n, vsl_w, vsr_i, vsr_l, vsr_r, vsr_k, vsr_n, vsr_w, and_self, and_true, true_and, and_false, false_and, or_self, or_true, true_or, or_false, false_or, not_true_eq_false, not_false_eq_true, ne_eq, eq_self, reduceCtorEq, Nat.reduceEqDiff, Nat.reduceAdd, Nat.reduceMul, Nat.reduceSub, Nat.reduceLT, Nat.reduceLeDiff, Nat.reduceDiv, Nat.add_zero, Nat.zero_add, Nat.not_lt_zero, Nat.zero_le, Nat.le_refl, Nat.lt_irrefl, l_eq_l, m_eq_l, l_eq_m, Int32.reduceLT, Int32.reduceLE, Int32.reduceAdd, Int32.reduceSub, Int32.reduceMul, b01_0, b01_1, b10_0, z_ne_o, o_ne_z, zn_add, zn_addl, zn_ladd, zn_mull, zn_subl, ix_zn, ix_l, ck_zn, ck_l, zn_le, zn_le_l, l_le_zn, zn_lt, zn_lt_l, l_lt_zn, zn_eq, zn_eq_l, l_eq_zn, zn_eq_m, m_eq_zn, m_le_zn, zn_lt_m, imin_zn, imax_zn, zn_le_m, h.ne, h.who, xs_has]
    simp (disch := omega) only [show ¬ C.ne ≤ k by omega, ↓reduceIte]
    repeat' split
    all_goals first | rfl | simp_all
  · simp (disch := omega) only [x_errandsOf_L4, lt_u, jn_u, bd_s, rf_s, nl_s, nl_n, ↓reduceIte, ↓ckb24, ↓ckb256, ckb_T, ckb01, vsi_i, vsi_l, vsi_r, vsi_k, vsi_n, vsi_w, vsl_i, vsl_l, vsl_r, vsl_k, vsl_n, vsl_w, vsr_i, vsr_l, vsr_r, vsr_k, vsr_n, vsr_w, and_self, and_true, true_and, and_false, false_and, or_self, or_true, true_or, or_false, false_or, not_true_eq_false, not_false_eq_true, ne_eq, eq_self, reduceCtorEq, Nat.reduceEqDiff, Nat.reduceAdd, Nat.reduceMul, Nat.reduceSub, Nat.reduceLT, Nat.reduceLeDiff, Nat.reduceDiv, Nat.add_zero, Nat.zero_add, Nat.not_lt_zero, Nat.zero_le, Nat.le_refl, Nat.lt_irrefl, l_eq_l, m_eq_l, l_eq_m, Int32.reduceLT, Int32.reduceLE, Int32.reduceAdd, Int32.reduceSub, Int32.reduceMul, b01_0, b01_1, b10_0, z_ne_o, o_ne_z, zn_add, zn_addl, zn_ladd, zn_mull, zn_subl, ix_zn, ix_l, ck_zn, ck_l, zn_le, zn_le_l, l_le_zn, zn_lt, zn_lt_l, l_lt_zn, zn_eq, zn_eq_l, l_eq_zn, zn_eq_m, m_eq_zn, m_le_zn, zn_lt_m, imin_zn, imax_zn, zn_le_m, h.ne]
    rfl
theorem xs_doesBy (h : CX C M) (d p st : Int32) {w : Nat} (hw : w < C.nw) : x_doesBy d p st (zn w) M = some (dob C d p st w, M) := by
  have b1 := h.ok.ne8
  unfold x_doesBy
  refine nlp (fun n k s => x_doesBy_L6 d p st (zn w) n s (zn k) M) C.ne FU (FU_lt (by omega)) (fun e s => s ||| (if zn (C.who e) = p then (if zn (C.wh e) = st then (if ((d >>> (zn e &&& 31)) &&& 1) = 1 then 0 else (if mns C w (zn (C.em e)) then (1 : Int32) <<< (zn e &&& 31) else 0)) else 0) else 0)) 0 _ (fun n k hk => ?_) (fun n => ?_)
  · have g : ¬ C.ne ≤ k := by omega
    by_cases c1 : zn (C.who k) = p
    · by_cases c2 : zn (C.wh k) = st
      · by_cases c4 : ((d >>> (zn k &&& 31)) &&& 1) = 1
        · simp (disch := omega) only [x_doesBy_L6, lt_u, jn_u, bd_s, rf_s, nl_s, nl_n, ↓reduceIte, ↓ckb24, ↓ckb256, ckb_T, ckb01, vsi_i, vsi_l, vsi_r, vsi_k, vsi_n, vsi_w, vsl_i, vsl_l, vsl_r, vsl_k, vsl_n, vsl_w, vsr_i, vsr_l, vsr_r, vsr_k, vsr_n, vsr_w, and_self, and_true, true_and, and_false, false_and, or_self, or_true, true_or, or_false, false_or, not_true_eq_false, not_false_eq_true, ne_eq, eq_self, reduceCtorEq, Nat.reduceEqDiff, Nat.reduceAdd, Nat.reduceMul, Nat.reduceSub, Nat.reduceLT, Nat.reduceLeDiff, Nat.reduceDiv, Nat.add_zero, Nat.zero_add, Nat.not_lt_zero, Nat.zero_le, Nat.le_refl, Nat.lt_irrefl, l_eq_l, m_eq_l, l_eq_m, Int32.reduceLT, Int32.reduceLE, Int32.reduceAdd, Int32.reduceSub, Int32.reduceMul, b01_0, b01_1, b10_0, z_ne_o, o_ne_z, zn_add, zn_addl, zn_ladd, zn_mull, zn_subl, ix_zn, ix_l, ck_zn, ck_l, zn_le, zn_le_l, l_le_zn, zn_lt, zn_lt_l, l_lt_zn, zn_eq, zn_eq_l, l_eq_zn, zn_eq_m, m_eq_zn, m_le_zn, zn_lt_m, imin_zn, imax_zn, zn_le_m, h.ne, h.who, h.wh, h.em, xs_has, xs_means h hw, g, c1, c2, c4]
        · by_cases c3 : mns C w (zn (C.em k))
          · simp (disch := omega) only [x_doesBy_L6, lt_u, jn_u, bd_s, rf_s, nl_s, nl_n, ↓reduceIte, ↓ckb24, ↓ckb256, ckb_T, ckb01, vsi_i, vsi_l, vsi_r, vsi_k, vsi_n, vsi_w, vsl_i, vsl_l, vsl_r, vsl_k, vsl_n, vsl_w, vsr_i, vsr_l, vsr_r, vsr_k, vsr_n, vsr_w, and_self, and_true, true_and, and_false, false_and, or_self, or_true, true_or, or_false, false_or, not_true_eq_false, not_false_eq_true, ne_eq, eq_self, reduceCtorEq, Nat.reduceEqDiff, Nat.reduceAdd, Nat.reduceMul, Nat.reduceSub, Nat.reduceLT, Nat.reduceLeDiff, Nat.reduceDiv, Nat.add_zero, Nat.zero_add, Nat.not_lt_zero, Nat.zero_le, Nat.le_refl, Nat.lt_irrefl, l_eq_l, m_eq_l, l_eq_m, Int32.reduceLT, Int32.reduceLE, Int32.reduceAdd, Int32.reduceSub, Int32.reduceMul, b01_0, b01_1, b10_0, z_ne_o, o_ne_z, zn_add, zn_addl, zn_ladd, zn_mull, zn_subl, ix_zn, ix_l, ck_zn, ck_l, zn_le, zn_le_l, l_le_zn, zn_lt, zn_lt_l, l_lt_zn, zn_eq, zn_eq_l, l_eq_zn, zn_eq_m, m_eq_zn, m_le_zn, zn_lt_m, imin_zn, imax_zn, zn_le_m, h.ne, h.who, h.wh, h.em, xs_has, xs_means h hw, g, c1, c2, c3, c4]
          · simp (disch := omega) only [x_doesBy_L6, lt_u, jn_u, bd_s, rf_s, nl_s, nl_n, ↓reduceIte, ↓ckb24, ↓ckb256, ckb_T, ckb01, vsi_i, vsi_l, vsi_r, vsi_k, vsi_n, vsi_w, vsl_i, vsl_l, vsl_r, vsl_k, vsl_n, vsl_w, vsr_i, vsr_l, vsr_r, vsr_k, vsr_n, vsr_w, and_self, and_true, true_and, and_false, false_and, or_self, or_true, true_or, or_false, false_or, not_true_eq_false, not_false_eq_true, ne_eq, eq_self, reduceCtorEq, Nat.reduceEqDiff, Nat.reduceAdd, Nat.reduceMul, Nat.reduceSub, Nat.reduceLT, Nat.reduceLeDiff, Nat.reduceDiv, Nat.add_zero, Nat.zero_add, Nat.not_lt_zero, Nat.zero_le, Nat.le_refl, Nat.lt_irrefl, l_eq_l, m_eq_l, l_eq_m, Int32.reduceLT, Int32.reduceLE, Int32.reduceAdd, Int32.reduceSub, Int32.reduceMul, b01_0, b01_1, b10_0, z_ne_o, o_ne_z, zn_add, zn_addl, zn_ladd, zn_mull, zn_subl, ix_zn, ix_l, ck_zn, ck_l, zn_le, zn_le_l, l_le_zn, zn_lt, zn_lt_l, l_lt_zn, zn_eq, zn_eq_l, l_eq_zn, zn_eq_m, m_eq_zn, m_le_zn, zn_lt_m, imin_zn, imax_zn, zn_le_m, h.ne, h.who, h.wh, h.em, xs_has, xs_means h hw, g, c1, c2, c3, c4]
      · simp (disch := omega) only [x_doesBy_L6, lt_u, jn_u, bd_s, rf_s, nl_s, nl_n, ↓reduceIte, ↓ckb24, ↓ckb256, ckb_T, ckb01, vsi_i, vsi_l, vsi_r, vsi_k, vsi_n, vsi_w, vsl_i, vsl_l, vsl_r, vsl_k, vsl_n, vsl_w, vsr_i, vsr_l, vsr_r, vsr_k, vsr_n, vsr_w, and_self, and_true, true_and, and_false, false_and, or_self, or_true, true_or, or_false, false_or, not_true_eq_false, not_false_eq_true, ne_eq, eq_self, reduceCtorEq, Nat.reduceEqDiff, Nat.reduceAdd, Nat.reduceMul, Nat.reduceSub, Nat.reduceLT, Nat.reduceLeDiff, Nat.reduceDiv, Nat.add_zero, Nat.zero_add, Nat.not_lt_zero, Nat.zero_le, Nat.le_refl, Nat.lt_irrefl, l_eq_l, m_eq_l, l_eq_m, Int32.reduceLT, Int32.reduceLE, Int32.reduceAdd, Int32.reduceSub, Int32.reduceMul, b01_0, b01_1, b10_0, z_ne_o, o_ne_z, zn_add, zn_addl, zn_ladd, zn_mull, zn_subl, ix_zn, ix_l, ck_zn, ck_l, zn_le, zn_le_l, l_le_zn, zn_lt, zn_lt_l, l_lt_zn, zn_eq, zn_eq_l, l_eq_zn, zn_eq_m, m_eq_zn, m_le_zn, zn_lt_m, imin_zn, imax_zn, zn_le_m, h.ne, h.who, h.wh, h.em, xs_has, xs_means h hw, g, c1, c2]
    · simp (disch := omega) only [x_doesBy_L6, lt_u, jn_u, bd_s, rf_s, nl_s, nl_n, ↓reduceIte, ↓ckb24, ↓ckb256, ckb_T, ckb01, vsi_i, vsi_l, vsi_r, vsi_k, vsi_n, vsi_w, vsl_i, vsl_l, vsl_r, vsl_k, vsl_n, vsl_w, vsr_i, vsr_l, vsr_r, vsr_k, vsr_n, vsr_w, and_self, and_true, true_and, and_false, false_and, or_self, or_true, true_or, or_false, false_or, not_true_eq_false, not_false_eq_true, ne_eq, eq_self, reduceCtorEq, Nat.reduceEqDiff, Nat.reduceAdd, Nat.reduceMul, Nat.reduceSub, Nat.reduceLT, Nat.reduceLeDiff, Nat.reduceDiv, Nat.add_zero, Nat.zero_add, Nat.not_lt_zero, Nat.zero_le, Nat.le_refl, Nat.lt_irrefl, l_eq_l, m_eq_l, l_eq_m, Int32.reduceLT, Int32.reduceLE, Int32.reduceAdd, Int32.reduceSub, Int32.reduceMul, b01_0, b01_1, b10_0, z_ne_o, o_ne_z, zn_add, zn_addl, zn_ladd, zn_mull, zn_subl, ix_zn, ix_l, ck_zn, ck_l, zn_le, zn_le_l, l_le_zn, zn_lt, zn_lt_l, l_lt_zn, zn_eq, zn_eq_l, l_eq_zn, zn_eq_m, m_eq_zn, m_le_zn, zn_lt_m, imin_zn, imax_zn, zn_le_m, h.ne, h.who, h.wh, h.em, xs_has, xs_means h hw, g, c1]
  · simp (disch := omega) only [x_doesBy_L6, lt_u, jn_u, bd_s, rf_s, nl_s, nl_n, ↓reduceIte, ↓ckb24, ↓ckb256, ckb_T, ckb01, vsi_i, vsi_l, vsi_r, vsi_k, vsi_n, vsi_w, vsl_i, vsl_l, vsl_r, vsl_k, vsl_n, vsl_w, vsr_i, vsr_l, vsr_r, vsr_k, vsr_n, vsr_w, and_self, and_true, true_and, and_false, false_and, or_self, or_true, true_or, or_false, false_or, not_true_eq_false, not_false_eq_true, ne_eq, eq_self, reduceCtorEq, Nat.reduceEqDiff, Nat.reduceAdd, Nat.reduceMul, Nat.reduceSub, Nat.reduceLT, Nat.reduceLeDiff, Nat.reduceDiv, Nat.add_zero, Nat.zero_add, Nat.not_lt_zero, Nat.zero_le, Nat.le_refl, Nat.lt_irrefl, l_eq_l, m_eq_l, l_eq_m, Int32.reduceLT, Int32.reduceLE, Int32.reduceAdd, Int32.reduceSub, Int32.reduceMul, b01_0, b01_1, b10_0, z_ne_o, o_ne_z, zn_add, zn_addl, zn_ladd, zn_mull, zn_subl, ix_zn, ix_l, ck_zn, ck_l, zn_le, zn_le_l, l_le_zn, zn_lt, zn_lt_l, l_lt_zn, zn_eq, zn_eq_l, l_eq_zn, zn_eq_m, m_eq_zn, m_le_zn, zn_lt_m, imin_zn, imax_zn, zn_le_m, h.ne]
    rfl
end
