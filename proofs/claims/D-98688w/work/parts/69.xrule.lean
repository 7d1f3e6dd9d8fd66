set_option maxRecDepth 100000
/-! THE SYSTEM BUILDS A RULE's TREE -/
/-- the memory grew by c cells at most; else only the reading place and the nest moved -/
def Gw (c : Nat) (M M' : PM) : Prop := (M.n ≤ M'.n ∧ M'.n ≤ M.n + c) ∧ M'.w ≤ M.w + 5 * c ∧ (∀ o, o < M.n → M'.k o = M.k o) ∧ ∀ o j, o < M.n → ¬ (o = 20 ∧ (j = 17 ∨ j = 19)) → M'.i o j = M.i o j ∧ M'.l o j = M.l o j ∧ M'.r o j = M.r o j
theorem Gw.rf {M : PM} : Gw 0 M M := ⟨⟨Nat.le_refl _, Nat.le_refl _⟩, Nat.le_refl _, fun _ _ => rfl, fun _ _ _ _ => ⟨rfl, rfl, rfl⟩⟩
theorem Gw.tr {c d f : Nat} {M M1 M2 : PM} (h : Gw c M M1) (g : Gw d M1 M2) (hf : c + d ≤ f) : Gw f M M2 := by
  obtain ⟨⟨h1, h2⟩, h3, h4, h5⟩ := h
  obtain ⟨⟨g1, g2⟩, g3, g4, g5⟩ := g
  refine ⟨⟨by omega, by omega⟩, by omega, fun o ho => (g4 o (by omega)).trans (h4 o ho), fun o j ho hj => ?_⟩
  obtain ⟨a1, a2, a3⟩ := h5 o j ho hj
  obtain ⟨b1, b2, b3⟩ := g5 o j (by omega) hj
  exact ⟨b1.trans a1, b2.trans a2, b3.trans a3⟩
theorem Gw.mo {c f : Nat} {M M1 : PM} (h : Gw c M M1) (hf : c ≤ f) : Gw f M M1 := h.tr Gw.rf (by omega)
theorem Gw.p {M : PM} {v : Int32} : Gw 0 M (M.si 20 17 v) := by
  refine ⟨⟨Nat.le_refl _, Nat.le_refl _⟩, Nat.le_refl _, fun _ _ => rfl, fun o j _ hj => ⟨?_, rfl, rfl⟩⟩
  rw [si_i, if_neg (by omega)]
theorem Gw.q {M : PM} {v : Int32} : Gw 0 M (M.si 20 19 v) := by
  refine ⟨⟨Nat.le_refl _, Nat.le_refl _⟩, Nat.le_refl _, fun _ _ => rfl, fun o j _ hj => ⟨?_, rfl, rfl⟩⟩
  rw [si_i, if_neg (by omega)]
/-- a node is made -/
theorem Gw.nw {M M' : PM} {c w : Nat} (hw : w ≤ 5) (hn : M'.n = M.n + 1) (hw2 : M'.w = M.w + w) (hk : M'.k = (M.nw c 0 w).k) (hi : ∀ o, o ≠ M.n → M'.i o = M.i o) (hl : ∀ o, o ≠ M.n → M'.l o = M.l o) (hr : ∀ o, o ≠ M.n → M'.r o = M.r o) : Gw 1 M M' := by
  refine ⟨⟨by omega, by omega⟩, by omega, fun o ho => ?_, fun o j ho _ => ⟨?_, ?_, ?_⟩⟩
  · rw [hk, nw_k, if_neg (by omega)]
  · rw [hi o (by omega)]
  · rw [hl o (by omega)]
  · rw [hr o (by omega)]
theorem DenT.gw {c h a : Nat} {D : Dn} {M M' : PM} (hd : DenT M h a D) (g : Gw c M M') : DenT M' h a D :=
  hd.fr g.1.1 (fun o h1 h2 _ _ => ⟨g.2.2.1 o h2, funext (fun j => (g.2.2.2 o j h2 (by omega)).1), funext (fun j => (g.2.2.2 o j h2 (by omega)).2.2)⟩)
section
variable {b : Nat → Nat} {e : Nat} {M : PM}
theorem XP.gw {c : Nat} {M' : PM} (h : XP b e M) (g : Gw c M M') : XP b e M' := by
  obtain ⟨⟨h1, h0⟩, h2, h3, h4, h5⟩ := h
  refine ⟨⟨?_, ?_⟩, ?_, fun k hk => ?_, h4, h5⟩
  · rw [g.2.2.1 20 (by omega)]; exact h1
  · have := g.1.1; omega
  · rw [(g.2.2.2 20 18 (by omega) (by omega)).1]; exact h2
  · rw [(g.2.2.2 39 k (by omega) (by omega)).1]; exact h3 k hk
/-- what reading gave: a tree that means D, or none -/
def xR (b : Nat → Nat) (p nest : Nat) (r : Nat × Option Dn) (M : PM) (o : Option (Option Nat × PM)) : Prop := ∃ M', Gw (r.1 - p) M M' ∧ M'.i 20 17 = zn r.1 ∧ match r.2 with
  | some D => M'.i 20 19 = zn nest ∧ ∃ a h, o = some (some a, M') ∧ DenT M' h a D ∧ h ≤ r.1 - p
  | none => o = some (none, M')
theorem xR_s {p nest q : Nat} {D : Dn} {o : Option (Option Nat × PM)} (h : xR b p nest (q, some D) M o) : ∃ M', Gw (q - p) M M' ∧ M'.i 20 17 = zn q ∧ M'.i 20 19 = zn nest ∧ ∃ a h, o = some (some a, M') ∧ DenT M' h a D ∧ h ≤ q - p := h
theorem xR_n {p nest q : Nat} {o : Option (Option Nat × PM)} (h : xR b p nest (q, none) M o) : ∃ M', Gw (q - p) M M' ∧ M'.i 20 17 = zn q ∧ o = some (none, M') := h
theorem mp_id {p : Nat} (h : M.i 20 17 = zn p) : M = Mp M p := by
  show M = M.si 20 17 (zn p)
  rw [← h, si_id]
/-- a number's node -/
theorem xs_nu (hn : 105 ≤ M.n) (v : Int32) {M1 : PM} (h1 : M1.n = M.n + 1) (h2 : M1.k = (M.nw 4 0 3).k) : ∃ M2, nu_init M.n v M1 = some ((), M2) ∧ M2.n = M1.n ∧ M2.w = M1.w ∧ M2.k = M1.k ∧ (∀ o, o ≠ M.n → M2.i o = M1.i o ∧ M2.r o = M1.r o) ∧ M2.l = M1.l ∧ M2.i M.n 1 = v := by
  have hk : M1.k M.n = (4, 0) := by rw [h2, nw_k, if_pos rfl]
  refine ⟨(((M1.sr M.n 2 (some 20)).sr M.n 0 (some 20)).si M.n 1 v), ?_, rfl, rfl, rfl, fun o ho => ⟨?_, ?_⟩, rfl, ?_⟩
  · unfold nu_init nd_init
    simp only [lt_u, jn_u, bd_s, rf_s, nl_s, nl_n, ↓reduceIte, ↓ckb24, ↓ckb256, ckb_T, ckb01, vsi_i, vsi_l, vsi_r, vsi_k, vsi_n, vsi_w, vsl_i, vsl_l, vsl_r, vsl_k, vsl_n, vsl_w, vsr_i, vsr_l, vsr_r, vsr_k, vsr_n, vsr_w, and_self, and_true, true_and, and_false, false_and, or_self, or_true, true_or, or_false, false_or, not_true_eq_false, not_false_eq_true, ne_eq, eq_self, reduceCtorEq, Nat.reduceEqDiff, Nat.reduceAdd, Nat.reduceMul, Nat.reduceSub, Nat.reduceLT, Nat.reduceLeDiff, Nat.reduceDiv, Nat.add_zero, Nat.zero_add, Nat.not_lt_zero, Nat.zero_le, Nat.le_refl, Nat.lt_irrefl, ckk, ckb, hk, hn]
  · funext j
    rw [si_i, if_neg (by omega)]
    rfl
  · funext j
    rw [si_r, sr_r, if_neg (by omega), sr_r, if_neg (by omega)]
  · simp only [vsi_i, vsi_l, vsi_r, vsi_k, vsi_n, vsi_w, vsl_i, vsl_l, vsl_r, vsl_k, vsl_n, vsl_w, vsr_i, vsr_l, vsr_r, vsr_k, vsr_n, vsr_w, and_self, and_true, true_and, and_false, false_and, or_self, or_true, true_or, or_false, false_or, not_true_eq_false, not_false_eq_true, ne_eq, eq_self, reduceCtorEq, Nat.reduceEqDiff, Nat.reduceAdd, Nat.reduceMul, Nat.reduceSub, Nat.reduceLT, Nat.reduceLeDiff, Nat.reduceDiv, Nat.add_zero, Nat.zero_add, Nat.not_lt_zero, Nat.zero_le, Nat.le_refl, Nat.lt_irrefl, ↓reduceIte]
theorem xs_sg (hn : 105 ≤ M.n) (v : Int32) {M1 : PM} (h1 : M1.n = M.n + 1) (h2 : M1.k = (M.nw 5 0 3).k) : ∃ M2, sg_init M.n v M1 = some ((), M2) ∧ M2.n = M1.n ∧ M2.w = M1.w ∧ M2.k = M1.k ∧ (∀ o, o ≠ M.n → M2.i o = M1.i o ∧ M2.r o = M1.r o) ∧ M2.l = M1.l ∧ M2.i M.n 1 = v ∧ M2.r M.n 2 = some 20 := by
  have hk : M1.k M.n = (5, 0) := by rw [h2, nw_k, if_pos rfl]
  refine ⟨(((M1.sr M.n 2 (some 20)).sr M.n 0 (some 20)).si M.n 1 v), ?_, rfl, rfl, rfl, fun o ho => ⟨?_, ?_⟩, rfl, ?_, ?_⟩
  · unfold sg_init nd_init
    simp only [lt_u, jn_u, bd_s, rf_s, nl_s, nl_n, ↓reduceIte, ↓ckb24, ↓ckb256, ckb_T, ckb01, vsi_i, vsi_l, vsi_r, vsi_k, vsi_n, vsi_w, vsl_i, vsl_l, vsl_r, vsl_k, vsl_n, vsl_w, vsr_i, vsr_l, vsr_r, vsr_k, vsr_n, vsr_w, and_self, and_true, true_and, and_false, false_and, or_self, or_true, true_or, or_false, false_or, not_true_eq_false, not_false_eq_true, ne_eq, eq_self, reduceCtorEq, Nat.reduceEqDiff, Nat.reduceAdd, Nat.reduceMul, Nat.reduceSub, Nat.reduceLT, Nat.reduceLeDiff, Nat.reduceDiv, Nat.add_zero, Nat.zero_add, Nat.not_lt_zero, Nat.zero_le, Nat.le_refl, Nat.lt_irrefl, ckk, ckb, hk, hn]
  · funext j
    rw [si_i, if_neg (by omega)]
    rfl
  · funext j
    rw [si_r, sr_r, if_neg (by omega), sr_r, if_neg (by omega)]
  · simp only [vsi_i, vsi_l, vsi_r, vsi_k, vsi_n, vsi_w, vsl_i, vsl_l, vsl_r, vsl_k, vsl_n, vsl_w, vsr_i, vsr_l, vsr_r, vsr_k, vsr_n, vsr_w, and_self, and_true, true_and, and_false, false_and, or_self, or_true, true_or, or_false, false_or, not_true_eq_false, not_false_eq_true, ne_eq, eq_self, reduceCtorEq, Nat.reduceEqDiff, Nat.reduceAdd, Nat.reduceMul, Nat.reduceSub, Nat.reduceLT, Nat.reduceLeDiff, Nat.reduceDiv, Nat.add_zero, Nat.zero_add, Nat.not_lt_zero, Nat.zero_le, Nat.le_refl, Nat.lt_irrefl, ↓reduceIte]
  · simp only [vsi_i, vsi_l, vsi_r, vsi_k, vsi_n, vsi_w, vsl_i, vsl_l, vsl_r, vsl_k, vsl_n, vsl_w, vsr_i, vsr_l, vsr_r, vsr_k, vsr_n, vsr_w, and_self, and_true, true_and, and_false, false_and, or_self, or_true, true_or, or_false, false_or, not_true_eq_false, not_false_eq_true, ne_eq, eq_self, reduceCtorEq, Nat.reduceEqDiff, Nat.reduceAdd, Nat.reduceMul, Nat.reduceSub, Nat.reduceLT, Nat.reduceLeDiff, Nat.reduceDiv, Nat.add_zero, Nat.zero_add, Nat.not_lt_zero, Nat.zero_le, Nat.le_refl, Nat.lt_irrefl, ↓reduceIte]
theorem xs_ls (hn : 105 ≤ M.n) (v : Nat) {M1 : PM} (h1 : M1.n = M.n + 1) (h2 : M1.k = (M.nw 3 0 3).k) : ∃ M2, ls_init M.n v M1 = some ((), M2) ∧ M2.n = M1.n ∧ M2.w = M1.w ∧ M2.k = M1.k ∧ (∀ o, o ≠ M.n → M2.i o = M1.i o ∧ M2.r o = M1.r o) ∧ M2.l = M1.l ∧ M2.r M.n 1 = some v := by
  have hk : M1.k M.n = (3, 0) := by rw [h2, nw_k, if_pos rfl]
  refine ⟨(((M1.sr M.n 2 (some 20)).sr M.n 0 (some 20)).sr M.n 1 (some v)), ?_, rfl, rfl, rfl, fun o ho => ⟨?_, ?_⟩, rfl, ?_⟩
  · unfold ls_init nd_init
    simp only [lt_u, jn_u, bd_s, rf_s, nl_s, nl_n, ↓reduceIte, ↓ckb24, ↓ckb256, ckb_T, ckb01, vsi_i, vsi_l, vsi_r, vsi_k, vsi_n, vsi_w, vsl_i, vsl_l, vsl_r, vsl_k, vsl_n, vsl_w, vsr_i, vsr_l, vsr_r, vsr_k, vsr_n, vsr_w, and_self, and_true, true_and, and_false, false_and, or_self, or_true, true_or, or_false, false_or, not_true_eq_false, not_false_eq_true, ne_eq, eq_self, reduceCtorEq, Nat.reduceEqDiff, Nat.reduceAdd, Nat.reduceMul, Nat.reduceSub, Nat.reduceLT, Nat.reduceLeDiff, Nat.reduceDiv, Nat.add_zero, Nat.zero_add, Nat.not_lt_zero, Nat.zero_le, Nat.le_refl, Nat.lt_irrefl, ckk, ckb, hk, hn]
  · rfl
  · funext j
    rw [sr_r, if_neg (by omega), sr_r, if_neg (by omega), sr_r, if_neg (by omega)]
  · simp only [vsi_i, vsi_l, vsi_r, vsi_k, vsi_n, vsi_w, vsl_i, vsl_l, vsl_r, vsl_k, vsl_n, vsl_w, vsr_i, vsr_l, vsr_r, vsr_k, vsr_n, vsr_w, and_self, and_true, true_and, and_false, false_and, or_self, or_true, true_or, or_false, false_or, not_true_eq_false, not_false_eq_true, ne_eq, eq_self, reduceCtorEq, Nat.reduceEqDiff, Nat.reduceAdd, Nat.reduceMul, Nat.reduceSub, Nat.reduceLT, Nat.reduceLeDiff, Nat.reduceDiv, Nat.add_zero, Nat.zero_add, Nat.not_lt_zero, Nat.zero_le, Nat.le_refl, Nat.lt_irrefl, ↓reduceIte]
theorem xs_ac (hn : 105 ≤ M.n) (c : Nat) (hc : c < 256) (v w : Nat) {M1 : PM} (h1 : M1.n = M.n + 1) (h2 : M1.k = (M.nw 6 0 5).k) : ∃ M2, ac_init M.n (zn c) v w M1 = some ((), M2) ∧ M2.n = M1.n ∧ M2.w = M1.w ∧ M2.k = M1.k ∧ (∀ o, o ≠ M.n → M2.i o = M1.i o ∧ M2.r o = M1.r o) ∧ M2.l = M1.l ∧ M2.i M.n 1 = zn c ∧ M2.r M.n 2 = some v ∧ M2.r M.n 3 = some w := by
  have hk : M1.k M.n = (6, 0) := by rw [h2, nw_k, if_pos rfl]
  have hf : narrow .char (.int (zn c)) = .int (zn c) ∧ fits .char (.int (zn c)) = true := by
    have : ∀ c, c < 256 → narrow .char (.int (zn c)) = .int (zn c) ∧ fits .char (.int (zn c)) = true := by decide +kernel
    exact this c hc
  refine ⟨(((((M1.sr M.n 4 (some 20)).sr M.n 0 (some 20)).si M.n 1 (zn c)).sr M.n 2 (some v)).sr M.n 3 (some w)), ?_, rfl, rfl, rfl, fun o ho => ⟨?_, ?_⟩, rfl, ?_, ?_, ?_⟩
  · unfold ac_init nd_init
    simp only [lt_u, jn_u, bd_s, rf_s, nl_s, nl_n, ↓reduceIte, ↓ckb24, ↓ckb256, ckb_T, ckb01, vsi_i, vsi_l, vsi_r, vsi_k, vsi_n, vsi_w, vsl_i, vsl_l, vsl_r, vsl_k, vsl_n, vsl_w, vsr_i, vsr_l, vsr_r, vsr_k, vsr_n, vsr_w, and_self, and_true, true_and, and_false, false_and, or_self, or_true, true_or, or_false, false_or, not_true_eq_false, not_false_eq_true, ne_eq, eq_self, reduceCtorEq, Nat.reduceEqDiff, Nat.reduceAdd, Nat.reduceMul, Nat.reduceSub, Nat.reduceLT, Nat.reduceLeDiff, Nat.reduceDiv, Nat.add_zero, Nat.zero_add, Nat.not_lt_zero, Nat.zero_le, Nat.le_refl, Nat.lt_irrefl, ckk, ckb, hk, hn, hf.1, hf.2]
  · funext j
    rw [sr_i, sr_i, si_i, if_neg (by omega)]
    rfl
  · funext j
    rw [sr_r, if_neg (by omega), sr_r, if_neg (by omega), si_r, sr_r, if_neg (by omega), sr_r, if_neg (by omega)]
  · simp only [vsi_i, vsi_l, vsi_r, vsi_k, vsi_n, vsi_w, vsl_i, vsl_l, vsl_r, vsl_k, vsl_n, vsl_w, vsr_i, vsr_l, vsr_r, vsr_k, vsr_n, vsr_w, and_self, and_true, true_and, and_false, false_and, or_self, or_true, true_or, or_false, false_or, not_true_eq_false, not_false_eq_true, ne_eq, eq_self, reduceCtorEq, Nat.reduceEqDiff, Nat.reduceAdd, Nat.reduceMul, Nat.reduceSub, Nat.reduceLT, Nat.reduceLeDiff, Nat.reduceDiv, Nat.add_zero, Nat.zero_add, Nat.not_lt_zero, Nat.zero_le, Nat.le_refl, Nat.lt_irrefl, ↓reduceIte]
  · simp only [vsi_i, vsi_l, vsi_r, vsi_k, vsi_n, vsi_w, vsl_i, vsl_l, vsl_r, vsl_k, vsl_n, vsl_w, vsr_i, vsr_l, vsr_r, vsr_k, vsr_n, vsr_w, and_self, and_true, true_and, and_false, false_and, or_self, or_true, true_or, or_false, false_or, not_true_eq_false, not_false_eq_true, ne_eq, eq_self, reduceCtorEq, Nat.reduceEqDiff, Nat.reduceAdd, Nat.reduceMul, Nat.reduceSub, Nat.reduceLT, Nat.reduceLeDiff, Nat.reduceDiv, Nat.add_zero, Nat.zero_add, Nat.not_lt_zero, Nat.zero_le, Nat.le_refl, Nat.lt_irrefl, ↓reduceIte]
  · simp only [vsi_i, vsi_l, vsi_r, vsi_k, vsi_n, vsi_w, vsl_i, vsl_l, vsl_r, vsl_k, vsl_n, vsl_w, vsr_i, vsr_l, vsr_r, vsr_k, vsr_n, vsr_w, and_self, and_true, true_and, and_false, false_and, or_self, or_true, true_or, or_false, false_or, not_true_eq_false, not_false_eq_true, ne_eq, eq_self, reduceCtorEq, Nat.reduceEqDiff, Nat.reduceAdd, Nat.reduceMul, Nat.reduceSub, Nat.reduceLT, Nat.reduceLeDiff, Nat.reduceDiv, Nat.add_zero, Nat.zero_add, Nat.not_lt_zero, Nat.zero_le, Nat.le_refl, Nat.lt_irrefl, ↓reduceIte]
/-- the frame of a node's making -/
theorem gw_mk {M M1 M2 : PM} {c w : Nat} (hw : w ≤ 5) (e1 : M1 = M.nw c 0 w) (h1 : M2.n = M1.n) (h2 : M2.w = M1.w) (h3 : M2.k = M1.k) (h4 : ∀ o, o ≠ M.n → M2.i o = M1.i o ∧ M2.r o = M1.r o) (h5 : M2.l = M1.l) : Gw 1 M M2 ∧ (∀ o, o ≠ M.n → M2.i o = M.i o) ∧ (M2.k M.n).1 = c ∧ M.n < M2.n := by
  subst e1
  have hi : ∀ o, o ≠ M.n → M2.i o = M.i o := fun o ho => by
    rw [(h4 o ho).1]; funext j; rw [nw_i, if_neg ho]
  refine ⟨Gw.nw (c := c) (w := w) hw h1 h2 h3 hi (fun o ho => ?_) (fun o ho => ?_), hi, ?_, ?_⟩
  · rw [h5]; funext j; rw [nw_l, if_neg ho]
  · rw [(h4 o ho).2]; funext j; rw [nw_r, if_neg ho]
  · rw [h3, nw_k, if_pos rfl]
  · rw [h1]; exact Nat.lt_succ_self _
theorem ch_of : ∀ c, c < 256 → ((Int32.toUInt32 (zn c)) % 65536).toInt32 = zn c := by decide +kernel
theorem xs_thing (h : XP b e M) (he : e ≤ 40) {k nest p : Nat} (hn : nest ≤ 4) (hp : p ≤ e) {fr : Int32 → PM → Option (Option Nat × PM)} {ft : PM → Option (Option Nat × PM)} (h17 : M.i 20 17 = zn p) (h19 : M.i 20 19 = zn nest)
    (ht : p < e → ∀ M', XP b e M' → M'.i 20 17 = zn (p + 1) → M'.i 20 19 = zn nest → xR b (p + 1) nest (pz b e k 3 nest (p + 1)) M' (ft M'))
    (hh : p < e → nest < 4 → ∀ M', XP b e M' → M'.i 20 17 = zn (p + 1) → M'.i 20 19 = zn (nest + 1) → xR b (p + 1) (nest + 1) (pz b e k 0 (nest + 1) (p + 1)) M' (fr 0 M')) :
    xR b p nest (pz b e (k + 1) 3 nest p) M (b_x_readsThing fr ft M) := by
  have hM := mp_id h17
  have hn0 : 105 ≤ M.n := h.1.2
  have t2 := h.2.2.2.1 p
  have s45 : x_eats 45 (Mp M p) = _ := xs_eats h (p := p) (c := 45) (by omega) (by omega)
  have sdg := xs_isDigit h (p := p) (by omega)
  have sam := xs_among h (p := p) (i := 3) (by omega) (by omega)
  have s40 : x_isAt 40 (Mp M p) = _ := xs_isAt h (p := p) (c := 40) (by omega) (by omega)
  rw [← hM] at s45 sdg sam s40
  unfold pz
  rw [if_pos rfl]
  by_cases q1 : p < e ∧ b p = 45
  · rw [if_pos q1]
    rw [if_pos q1] at s45
    have hg := pz_ge b e k 3 nest (p + 1)
    have hx := ht q1.1 (Mp M (p + 1)) (h.mp _) (by simp only [vsi_i, vsi_l, vsi_r, vsi_k, vsi_n, vsi_w, vsl_i, vsl_l, vsl_r, vsl_k, vsl_n, vsl_w, vsr_i, vsr_l, vsr_r, vsr_k, vsr_n, vsr_w, and_self, and_true, true_and, and_false, false_and, or_self, or_true, true_or, or_false, false_or, not_true_eq_false, not_false_eq_true, ne_eq, eq_self, reduceCtorEq, Nat.reduceEqDiff, Nat.reduceAdd, Nat.reduceMul, Nat.reduceSub, Nat.reduceLT, Nat.reduceLeDiff, Nat.reduceDiv, Nat.add_zero, Nat.zero_add, Nat.not_lt_zero, Nat.zero_le, Nat.le_refl, Nat.lt_irrefl, ↓reduceIte]) (by simp only [vsi_i, vsi_l, vsi_r, vsi_k, vsi_n, vsi_w, vsl_i, vsl_l, vsl_r, vsl_k, vsl_n, vsl_w, vsr_i, vsr_l, vsr_r, vsr_k, vsr_n, vsr_w, and_self, and_true, true_and, and_false, false_and, or_self, or_true, true_or, or_false, false_or, not_true_eq_false, not_false_eq_true, ne_eq, eq_self, reduceCtorEq, Nat.reduceEqDiff, Nat.reduceAdd, Nat.reduceMul, Nat.reduceSub, Nat.reduceLT, Nat.reduceLeDiff, Nat.reduceDiv, Nat.add_zero, Nat.zero_add, Nat.not_lt_zero, Nat.zero_le, Nat.le_refl, Nat.lt_irrefl, ↓reduceIte]; exact h19)
    unfold pbn
    rcases hr : pz b e k 3 nest (p + 1) with ⟨r1, r2⟩
    rw [hr] at hx hg
    have hg1 : p + 1 ≤ r1 := hg.1
    cases r2 with
    | none =>
      obtain ⟨M', g, e17, eo⟩ := xR_n hx
      refine ⟨M', Gw.p.tr g (by show 0 + (r1 - (p + 1)) ≤ r1 - p; omega), e17, ?_⟩
      show _ = some (none, M')
      simp only [b_x_readsThing, s45, bd_s, o_ne_z, ↓reduceIte, eo, nl_n]
    | some D =>
      obtain ⟨M', g, e17, e19, a, h0, eo, hd, hh0⟩ := xR_s hx
      have hn1 : 105 ≤ M'.n := (XP.gw (h.mp (p + 1)) g).1.2
      obtain ⟨M2, eo2, m1, m2, m3, m4, m5, m6⟩ := xs_ls hn1 a (M1 := M'.nw 3 0 3) rfl rfl
      obtain ⟨g2, i2, k2, n2⟩ := gw_mk (c := 3) (w := 3) (by omega) rfl m1 m2 m3 m4 m5
      refine ⟨M2, (Gw.p.tr g (Nat.le_refl _)).tr g2 (by show 0 + (r1 - (p + 1)) + 1 ≤ r1 - p; omega), ?_, ?_, M'.n, h0 + 1, ?_, ?_, ?_⟩
      · rw [i2 20 (by omega)]; exact e17
      · rw [i2 20 (by omega)]; exact e19
      · simp only [b_x_readsThing, s45, bd_s, o_ne_z, ↓reduceIte, eo, nl_s, lt_u, eo2]
      · exact ⟨⟨hn1, n2⟩, Or.inr (Or.inr (Or.inl ⟨k2, a, D, m6, hd.gw g2, rfl⟩))⟩
      · show h0 + 1 ≤ r1 - p
        omega
  · rw [if_neg q1]
    rw [if_neg q1] at s45
    by_cases q2 : p < e ∧ isd (b p) = true
    · rw [if_pos q2]
      rw [if_pos q2] at sdg
      obtain ⟨N, hN⟩ : ∃ N, N = M.nw 4 0 3 := ⟨_, rfl⟩
      have gN : Gw 1 M N := by rw [hN]; exact Gw.nw (c := 4) (w := 3) (by omega) rfl rfl rfl (fun o ho => funext fun j => by rw [nw_i, if_neg ho]) (fun o ho => funext fun j => by rw [nw_l, if_neg ho]) (fun o ho => funext fun j => by rw [nw_r, if_neg ho])
      have hpN : XP b e N := h.gw gN
      have iN : ∀ o, o ≠ M.n → N.i o = M.i o := fun o ho => by rw [hN]; exact funext fun j => by rw [nw_i, if_neg ho]
      have e17 : N.i 20 17 = zn p := by rw [iN 20 (by omega)]; exact h17
      have snu : x_number 3 (Mp N p) = _ := xs_number hpN (d := 3) (p := p) (by omega) (by omega)
      rw [← mp_id e17, if_pos q2] at snu
      have hg := num_ge b e 3 p 0
      have hlt : p + 1 ≤ (num b e 3 p 0).1 := by
        rw [num, if_pos q2]
        exact (num_ge b e 2 (p + 1) _).1
      obtain ⟨M2, eo2, m1, m2, m3, m4, m5, m6⟩ := xs_nu hn0 (zn (num b e 3 p 0).2) (M1 := Mp N (num b e 3 p 0).1) (by rw [hN]; rfl) (by rw [hN]; rfl)
      have i2 : ∀ o, o ≠ M.n → o ≠ 20 → M2.i o = M.i o := fun o ho h20 => by
        rw [(m4 o ho).1, ← iN o ho]
        funext j
        rw [si_i, if_neg (by omega)]
      have i20 : ∀ j, j ≠ 17 → M2.i 20 j = M.i 20 j := fun j hj => by
        rw [(m4 20 (by omega)).1, ← iN 20 (by omega), si_i, if_neg (by omega)]
      have gg : Gw 1 M M2 := by
        refine ⟨⟨by rw [m1, hN]; exact Nat.le_succ _, by rw [m1, hN]; exact Nat.le_refl _⟩, by rw [m2, hN]; show M.w + 3 ≤ _; omega, fun o ho => ?_, fun o j ho hj => ⟨?_, ?_, ?_⟩⟩
        · rw [m3, hN]
          show (M.nw 4 0 3).k o = _
          rw [nw_k, if_neg (by omega)]
        · by_cases h20 : o = 20
          · subst h20
            exact i20 j (by omega)
          · rw [i2 o (by omega) h20]
        · rw [m5, hN]
          show (M.nw 4 0 3).l o j = _
          rw [nw_l, if_neg (by omega)]
        · rw [(m4 o (by omega)).2, hN]
          show (M.nw 4 0 3).r o j = _
          rw [nw_r, if_neg (by omega)]
      have k2 : (M2.k M.n).1 = 4 := by
        rw [m3, hN]
        show ((M.nw 4 0 3).k M.n).1 = 4
        rw [nw_k, if_pos rfl]
      have n2 : M.n < M2.n := by rw [m1, hN]; exact Nat.lt_succ_self _
      refine ⟨M2, gg.mo (by show 1 ≤ (num b e 3 p 0).1 - p; omega), ?_, ?_, M.n, 1, ?_, ?_, ?_⟩
      · rw [(m4 20 (by omega)).1, si_i, if_pos ⟨rfl, rfl⟩]
      · rw [i20 19 (by omega)]; exact h19
      · simp only [b_x_readsThing, s45, sdg, bd_s, o_ne_z, ↓reduceIte, lt_u, ← hN, snu, eo2]
      · refine ⟨⟨hn0, n2⟩, Or.inl ⟨k2, ?_⟩⟩
        rw [m6]
      · show 1 ≤ (num b e 3 p 0).1 - p
        omega
    · rw [if_neg q2]
      rw [if_neg q2] at sdg
      by_cases q3 : p < e ∧ isl (b p) = true
      · rw [if_pos q3]
        have a3 : ¬ amv b e 3 p < 0 := by
          unfold amv
          rw [if_pos q3.1, idx_3 _ t2, q3.2]
          exact fun w => by cases w
        obtain ⟨N, hN⟩ : ∃ N, N = Mp M (p + 1) := ⟨_, rfl⟩
        have gN : Gw 0 M N := by rw [hN]; exact Gw.p
        have hpN : XP b e N := h.gw gN
        have n17 : N.i 20 17 = zn (p + 1) := by rw [hN, si_i, if_pos ⟨rfl, rfl⟩]
        have n19 : N.i 20 19 = zn nest := by rw [hN, si_i, if_neg (by omega)]; exact h19
        have hn1 : 105 ≤ N.n := hpN.1.2
        obtain ⟨M2, eo2, m1, m2, m3, m4, m5, m6, m7⟩ := xs_sg hn1 (zn (b p)) (M1 := N.nw 5 0 3) rfl rfl
        obtain ⟨g2, i2, k2, n2⟩ := gw_mk (c := 5) (w := 3) (by omega) rfl m1 m2 m3 m4 m5
        have r17 : (N.nw 5 0 3).i 20 17 = zn (p + 1) := by rw [nw_i, if_neg (by omega)]; exact n17
        have r39 : (N.nw 5 0 3).i 39 p = zn (b p) := by rw [nw_i, if_neg (by omega)]; exact hpN.2.2.1 p (by omega)
        refine ⟨M2, gN.tr g2 (by show 0 + 1 ≤ p + 1 - p; omega), ?_, ?_, N.n, 1, ?_, ?_, ?_⟩
        · rw [i2 20 (by omega)]; exact n17
        · rw [i2 20 (by omega)]; exact n19
        · have e1 : zn p + 1 = zn (p + 1) := zn_addl p 1
          have e2 : p + 1 - 1 = p := by omega
          simp (disch := omega) only [b_x_readsThing, s45, sdg, sam, bd_s, ↓reduceIte, lt_u, h17, e1, ← hN, a3, r17, zn_subl, ck_zn, ix_zn, e2, r39, eo2]
        · exact ⟨⟨hn1, n2⟩, Or.inr (Or.inl ⟨k2, m7, by rw [m6]⟩)⟩
        · show 1 ≤ p + 1 - p
          omega
      · rw [if_neg q3]
        have a3 : amv b e 3 p < 0 := by
          unfold amv
          by_cases g : p < e
          · rw [if_pos g, idx_3 _ t2]
            rcases hb : isl (b p) with _ | _
            · rfl
            · exact absurd ⟨g, hb⟩ q3
          · rw [if_neg g]
            decide
        by_cases q6 : (p < e ∧ b p = 40) ∧ nest < 4
        · rw [if_pos q6]
          rw [if_pos q6.1] at s40
          obtain ⟨N, hN⟩ : ∃ N, N = (M.si 20 17 (zn (p + 1))).si 20 19 (zn (nest + 1)) := ⟨_, rfl⟩
          have gN : Gw 0 M N := by rw [hN]; exact Gw.p.tr Gw.q (Nat.le_refl _)
          have hpN : XP b e N := h.gw gN
          have n17 : N.i 20 17 = zn (p + 1) := by rw [hN, si_i, if_neg (by omega), si_i, if_pos ⟨rfl, rfl⟩]
          have n19 : N.i 20 19 = zn (nest + 1) := by rw [hN, si_i, if_pos ⟨rfl, rfl⟩]
          have hx := hh q6.1.1 q6.2 N hpN n17 n19
          have hg := pz_ge b e k 0 (nest + 1) (p + 1)
          have e1 : zn p + 1 = zn (p + 1) := zn_addl p 1
          have e2 : zn nest + 1 = zn (nest + 1) := zn_addl nest 1
          have e3 : (M.si 20 17 (zn (p + 1))).i 20 19 = zn nest := by rw [si_i, if_neg (by omega)]; exact h19
          have e4 : ¬ zn nest = 4 := by
            intro w
            have : zn nest = zn 4 := w
            have := zn_inj (by omega) (by omega) this
            omega
          unfold pbn
          rcases hr : pz b e k 0 (nest + 1) (p + 1) with ⟨r1, r2⟩
          rw [hr] at hx hg
          have hg1 : p + 1 ≤ r1 := hg.1
          have hg2 : r1 ≤ e := by
            have := hg.2
            simp only at this
            omega
          cases r2 with
          | none =>
            obtain ⟨M', g, e17, eo⟩ := xR_n hx
            refine ⟨M', gN.tr g (by show 0 + (r1 - (p + 1)) ≤ r1 - p; omega), e17, ?_⟩
            show _ = some (none, M')
            simp only [b_x_readsThing, s45, sdg, sam, s40, bd_s, ↓reduceIte, lt_u, h17, h19, e1, e2, e3, e4, a3, o_ne_z, ← hN, eo, nl_n]
          | some D =>
            obtain ⟨M', g, e17, e19, a, h0, eo, hd, hh0⟩ := xR_s hx
            have hpM : XP b e M' := hpN.gw g
            have s41 : x_eats 41 (Mp M' r1) = _ := xs_eats hpM (p := r1) (c := 41) (by omega) (by omega)
            rw [← mp_id e17] at s41
            by_cases q7 : r1 < e ∧ b r1 = 41
            · show xR b p nest (if r1 < e ∧ b r1 = 41 then (r1 + 1, some D) else (r1, none)) M _
              rw [if_pos q7]
              rw [if_pos q7] at s41
              have e5 : (Mp M' (r1 + 1)).i 20 19 - 1 = zn nest := by
                rw [si_i, if_neg (by omega), e19]
                exact zn_subl (n := 1) (show 1 ≤ nest + 1 by omega)
              have gf : Gw 0 M' ((Mp M' (r1 + 1)).si 20 19 (zn nest)) := Gw.p.tr Gw.q (Nat.le_refl _)
              refine ⟨(Mp M' (r1 + 1)).si 20 19 (zn nest), (gN.tr g (Nat.le_refl _)).tr gf (by show 0 + (r1 - (p + 1)) + 0 ≤ r1 + 1 - p; omega), ?_, ?_, a, h0, ?_, ?_, ?_⟩
              · rw [si_i, if_neg (by omega), si_i, if_pos ⟨rfl, rfl⟩]
              · rw [si_i, if_pos ⟨rfl, rfl⟩]
              · simp only [b_x_readsThing, s45, sdg, sam, s40, bd_s, ↓reduceIte, lt_u, h17, h19, e1, e2, e3, e4, a3, o_ne_z, ← hN, eo, nl_s, s41, e5]
              · exact hd.gw gf
              · show h0 ≤ r1 + 1 - p
                omega
            · show xR b p nest (if r1 < e ∧ b r1 = 41 then (r1 + 1, some D) else (r1, none)) M _
              rw [if_neg q7]
              rw [if_neg q7] at s41
              refine ⟨M', gN.tr g (by show 0 + (r1 - (p + 1)) ≤ r1 - p; omega), e17, ?_⟩
              show _ = some (none, M')
              simp only [b_x_readsThing, s45, sdg, sam, s40, bd_s, ↓reduceIte, lt_u, h17, h19, e1, e2, e3, e4, a3, o_ne_z, ← hN, eo, nl_s, s41]
        · rw [if_neg q6]
          refine ⟨M, Gw.rf.mo (by omega), h17, ?_⟩
          show _ = some (none, M)
          by_cases q7 : p < e ∧ b p = 40
          · rw [if_pos q7] at s40
            have e4 : zn nest = 4 := by
              have : nest = 4 := by
                rcases Nat.lt_or_ge nest 4 with w | w
                · exact absurd ⟨q7, w⟩ q6
                · omega
              rw [this]
              rfl
            simp only [b_x_readsThing, s45, sdg, sam, s40, bd_s, ↓reduceIte, lt_u, h19, e4, a3, o_ne_z]
          · rw [if_neg q7] at s40
            simp only [b_x_readsThing, s45, sdg, sam, s40, bd_s, ↓reduceIte, lt_u, a3]
end
