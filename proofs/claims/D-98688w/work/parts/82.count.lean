set_option maxRecDepth 100000
/-! ROW, COUNT, ASK, END -/
section
variable {C : SV} {A : Nat → Int32} {M M1 : PM} {l : List Int64} {nT nU ch : Nat} {bT : Nat → Nat} {U : Nat → Nat → Int32} {K : Nat → Bool × (Nat → Int32) × Nat}
def CallR (fx : PM → Option (Int32 × PM)) (fm : PM → Option (Int64 × PM)) : Prop := ∀ kb M, RR kb M → ∃ k b M1 M2, fx M = some (k, M1) ∧ fm M1 = some (b, M2) ∧ M2.i 72 13 = k ∧ (k = 0 ∨ k = 1) ∧ (k = 0 → M2.l 104 0 = b) ∧ RR kb M2 ∧ M2.n ≤ M.n + 500 ∧ M2.w ≤ M.w + 5000
theorem call_row (p : Int32) : CallR (lw_row p) (m_row p) := by
  rintro kb M ⟨C, A, nT, bT, nU, U, ch, K, l, hR⟩
  have h15 := hR.l15
  rcases dm_or (show l.length < 2147483648 by omega) p with ⟨k, hk, rfl⟩ | hn
  · have hlx := hR.lx.2 k hk
    obtain ⟨v, hv⟩ : ∃ v, v = l.getD k 0 := ⟨_, rfl⟩
    rw [← hv] at hlx
    have f1 : Fq xq M (M.sl 104 0 v) := Fq.rf.sl (by unfold xq ts; omega)
    have l1 : LX l (M.sl 104 0 v) := hR.lx.fr (c := fun o j => o = 104) (Fq.rf.sl rfl) (by omega) (fun j => by omega)
    have ly1 : LY l (M.sl 104 0 v) := hR.ly.fr f1 (by unfold xq ts; omega) (fun j => by unfold xq ts; omega)
    have l2 := ly13 ly1
    refine ⟨0, v, M.sl 104 0 v, (M.sl 104 0 v).si 72 13 0, ?_, ?_, by rw [si_i, if_pos ⟨rfl, rfl⟩], Or.inl rfl, fun _ => by rw [si_l, sl_l, if_pos ⟨rfl, rfl⟩], ⟨C, A, nT, bT, nU, U, ch, K, l, hR.q f1 f13 l1 l2 h15⟩, by show M.n ≤ M.n + 500; omega, by show M.w ≤ M.w + 5000; omega⟩
    · unfold lw_row x_row
      rw [hR.lx.1, bde (show x_in (zn k).toInt64 0 (zn l.length - 1).toInt64 M = some (1, M) by rw [x_in0, if_pos (by rw [dm_t hk (by omega)]; trivial)]), if_neg (by decide), ck_zn (by omega) (by omega), ix_zn (by omega), hlx, bd_s]
      show ck 0 1 _ = _
      rw [ck01, lt_u, ix0]
    · unfold m_row
      have hly := l2.2 k hk
      rw [← hv] at hly
      rw [lt_u, l2.1, bde (show m_in (zn k) 0 (zn l.length - 1) _ = some (1, (M.sl 104 0 v).si 72 13 0) by rw [m_in32, if_pos (by rw [dm_t hk (by omega)]; trivial)]), if_neg (by decide), ck_zn (by omega) (by omega), ix_zn (by omega), hly]
  · have hR1 := hR.gw (Ge.nw M 99 0 6)
    refine ⟨1, Int32.toInt64 0, M.nw 99 0 6, ((M.nw 99 0 6).si 72 13 0).si 72 13 1, ?_, ?_, by rw [si_i, if_pos ⟨rfl, rfl⟩], Or.inr rfl, fun q => absurd q (by decide), ⟨C, A, nT, bT, nU, U, ch, K, l, hR1.q Fq.rf (f13.tr (Fq.rf.si (by unfold yq; omega))) hR1.lx ?_ h15⟩, by show M.n + 1 ≤ M.n + 500; omega, by show M.w + 6 ≤ M.w + 5000; omega⟩
    · unfold lw_row x_row
      rw [hR.lx.1, bde (show x_in p.toInt64 0 (zn l.length - 1).toInt64 M = some (0, M) by rw [x_in0, if_neg hn]), if_pos rfl, bd_s]
      rfl
    · unfold m_row
      have l2 := ly13 hR1.ly
      rw [lt_u, l2.1, bde (show m_in p 0 (zn l.length - 1) _ = some (0, (M.nw 99 0 6).si 72 13 0) by rw [m_in32, if_neg hn]), if_pos rfl]
      rfl
    · exact (ly13 hR1.ly).fr (c := fun o j => o = 72 ∧ j = 13) (Fq.rf.si ⟨rfl, rfl⟩) (by omega) (fun j => by omega)
/-- a call that only looks -/
theorem Call.look {fx fm : PM → Option (Int32 × PM)} (h : ∀ C A nT bT nU U ch K l M, RV C A nT bT nU U ch K l M → ∃ v, fx M = some (v, M) ∧ ∀ N, RV C A nT bT nU U ch K l N → fm M = fm M → (∀ N, N = M.si 72 13 0 → CY 83 C N → RvY 73 A N → TY nT bT N → UY nU U N → LY l N → fm M = some (v, N))) : Call fx fm := by
  rintro kb M ⟨C, A, nT, bT, nU, U, ch, K, l, hR⟩
  obtain ⟨v, h1, h2⟩ := h C A nT bT nU U ch K l M hR
  have f : Fq yq M (M.si 72 13 0) := f13
  refine ⟨v, M, M.si 72 13 0, h1, h2 M hR rfl _ rfl (hR.y.fy f) (hR.b.fy f) (hR.2.2.1.2.fr f (by unfold yq ts; omega) (fun j => by unfold yq ts; omega)) (hR.2.2.2.1.2.fr f (fun j => by unfold yq ts; omega) (by unfold yq ts; omega)) (ly13 hR.ly), ⟨C, A, nT, bT, nU, U, ch, K, l, hR.q Fq.rf f hR.lx (ly13 hR.ly) hR.l15⟩, by show M.n ≤ M.n + 500; omega, by show M.w ≤ M.w + 5000; omega⟩
def smA (A : Nat → Int32) (f n : Nat) : Int32 := itr (fun k s => s + A (f + k)) n 0
theorem xs_heard0 (h : Sh M) (ha : RvX 21 A M) : rd_heardInAll 21 M = some (smA A 14 30, M) := by
  have hk := kd21 h
  have hr := rd21_3 h
  have hk2 := kd25 h
  unfold rd_heardInAll
  refine nlp (fun n k s => rd_heardInAll_L4 21 n s (zn k) M) 30 FU (FU_lt (by omega)) (fun k s => s + A (14 + k)) 0 _ (fun n k hk9 => ?_) (fun n => ?_)
  · have g : ¬ 30 ≤ k := by omega
    have hv : M.i 25 k = A (14 + k) := ha.2.2.2 k hk9
    simp (disch := omega) only [rd_heardInAll_L4, ↓lt_u, ↓jn_u, ↓bd_s, bd_s, ↓rf_s, rf_s, ↓nl_s, ↓nl_n, nl_s, nl_n, ↓reduceIte, ↓ckb24, ↓ckb256, ckb_T, ckb01, ↓ck_zn, ↓ck_l, ck_zn, ck_l, z_ne_o, o_ne_z, zn_addl, zn_le, ix_zn, l_le_zn, zn_lt_l, l_lt_zn, zn_lt, Nat.zero_le, Nat.le_refl, Nat.not_lt_zero, Int32.reduceLE, Int32.reduceLT, eq_self, b01_0, b10_0, ix_l, vsi_i, vsi_l, vsi_r, vsi_k, vsi_n, vsi_w, vsl_i, vsl_l, vsl_r, vsl_k, vsl_n, vsl_w, vsr_i, vsr_l, vsr_r, vsr_k, vsr_n, vsr_w, and_self, and_true, true_and, and_false, false_and, or_self, or_true, true_or, or_false, false_or, not_true_eq_false, not_false_eq_true, ne_eq, eq_self, reduceCtorEq, Nat.reduceEqDiff, Nat.reduceAdd, Nat.reduceMul, Nat.reduceSub, Nat.reduceLT, Nat.reduceLeDiff, Nat.reduceDiv, Nat.add_zero, Nat.zero_add, Nat.not_lt_zero, Nat.zero_le, Nat.le_refl, Nat.lt_irrefl, g, ↓ckk_k hk, ↓rfe hr, ↓cka_k hk2, hv]
  · show rd_heardInAll_L4 21 (n + 1) _ (zn 30) M = _
    rw [rd_heardInAll_L4, if_pos (by decide)]
    rfl
theorem xs_purses (h : CX C M) (ha : RvX 21 A M) : x_purses M = some (smA A 4 C.nt, M) := by
  have b := h.ok.nt4
  unfold x_purses
  refine nlp (fun n k s => x_purses_L4 n s (zn k) M) C.nt FU (FU_lt (by omega)) (fun k s => s + A (4 + k)) 0 _ (fun n k hk => ?_) (fun n => ?_)
  · have g : ¬ C.nt ≤ k := by omega
    have hv : M.i 23 k = A (4 + k) := (ha.1 k (by omega)).2.1
    simp (disch := omega) only [x_purses_L4, ↓lt_u, ↓jn_u, ↓bd_s, bd_s, ↓rf_s, rf_s, ↓nl_s, ↓nl_n, nl_s, nl_n, ↓reduceIte, ↓ckb24, ↓ckb256, ckb_T, ckb01, ↓ck_zn, ↓ck_l, ck_zn, ck_l, z_ne_o, o_ne_z, zn_addl, zn_le, ix_zn, l_le_zn, zn_lt_l, l_lt_zn, zn_lt, Nat.zero_le, Nat.le_refl, Nat.not_lt_zero, Int32.reduceLE, Int32.reduceLT, eq_self, b01_0, b10_0, ix_l, vsi_i, vsi_l, vsi_r, vsi_k, vsi_n, vsi_w, vsl_i, vsl_l, vsl_r, vsl_k, vsl_n, vsl_w, vsr_i, vsr_l, vsr_r, vsr_k, vsr_n, vsr_w, and_self, and_true, true_and, and_false, false_and, or_self, or_true, true_or, or_false, false_or, not_true_eq_false, not_false_eq_true, ne_eq, eq_self, reduceCtorEq, Nat.reduceEqDiff, Nat.reduceAdd, Nat.reduceMul, Nat.reduceSub, Nat.reduceLT, Nat.reduceLeDiff, Nat.reduceDiv, Nat.add_zero, Nat.zero_add, Nat.not_lt_zero, Nat.zero_le, Nat.le_refl, Nat.lt_irrefl, h.nt, g, hv]
  · show x_purses_L4 (n + 1) _ (zn C.nt) M = _
    rw [x_purses_L4, h.nt, if_pos (Int32.le_refl _)]
    rfl
theorem ms_sumOf (h : Sh M) (ha : RvY 73 A M) {f n : Nat} (hf : f + n ≤ 44) : m_sumOf (zn f) (zn n) M = some (smA A f n, M) := by
  unfold m_sumOf
  refine nlp (fun m k s => m_sumOf_L5 (zn f) (zn n) m s (zn k) M) n FU (FU_lt (by omega)) (fun k s => s + A (f + k)) 0 _ (fun m k hk => ?_) (fun m => ?_)
  · have g : ¬ n ≤ k := by omega
    have hv := ha (f + k) (by omega)
    simp (disch := omega) only [m_sumOf_L5, ↓lt_u, ↓jn_u, ↓bd_s, bd_s, ↓rf_s, rf_s, ↓nl_s, ↓nl_n, nl_s, nl_n, ↓reduceIte, ↓ckb24, ↓ckb256, ckb_T, ckb01, ↓ck_zn, ↓ck_l, ck_zn, ck_l, z_ne_o, o_ne_z, zn_addl, zn_le, ix_zn, l_le_zn, zn_lt_l, l_lt_zn, zn_lt, Nat.zero_le, Nat.le_refl, Nat.not_lt_zero, Int32.reduceLE, Int32.reduceLT, eq_self, b01_0, b10_0, ix_l, vsi_i, vsi_l, vsi_r, vsi_k, vsi_n, vsi_w, vsl_i, vsl_l, vsl_r, vsl_k, vsl_n, vsl_w, vsr_i, vsr_l, vsr_r, vsr_k, vsr_n, vsr_w, and_self, and_true, true_and, and_false, false_and, or_self, or_true, true_or, or_false, false_or, not_true_eq_false, not_false_eq_true, ne_eq, eq_self, reduceCtorEq, Nat.reduceEqDiff, Nat.reduceAdd, Nat.reduceMul, Nat.reduceSub, Nat.reduceLT, Nat.reduceLeDiff, Nat.reduceDiv, Nat.add_zero, Nat.zero_add, Nat.not_lt_zero, Nat.zero_le, Nat.le_refl, Nat.lt_irrefl, g, zn_add, hv]
  · show m_sumOf_L5 (zn f) (zn n) (m + 1) _ (zn n) M = _
    rw [m_sumOf_L5, if_pos (Int32.le_refl _)]
    rfl
def cmp (C : SV) : Int32 := itr (fun w s => s ||| (if C.sc w = -1 then 0 else (1 : Int32) <<< (zn w &&& 31))) C.nw 0
theorem xs_compounds (h : CX C M) : x_compounds M = some (cmp C, M) := by
  have b := h.ok.nw10
  unfold x_compounds
  refine nlp (fun n k s => x_compounds_L4 n s (zn k) M) C.nw FU (FU_lt (by omega)) (fun w s => s ||| (if C.sc w = -1 then 0 else (1 : Int32) <<< (zn w &&& 31))) 0 _ (fun n k hk => ?_) (fun n => ?_)
  · have g : ¬ C.nw ≤ k := by omega
    have hv := h.sc k hk
    rcases h.ok.scd k hk with q | ⟨d, hd, q⟩
    · rw [q] at hv
      simp (disch := omega) only [x_compounds_L4, ↓lt_u, ↓jn_u, ↓bd_s, bd_s, ↓rf_s, rf_s, ↓nl_s, ↓nl_n, nl_s, nl_n, ↓reduceIte, ↓ckb24, ↓ckb256, ckb_T, ckb01, ↓ck_zn, ↓ck_l, ck_zn, ck_l, z_ne_o, o_ne_z, zn_addl, zn_le, ix_zn, l_le_zn, zn_lt_l, l_lt_zn, zn_lt, Nat.zero_le, Nat.le_refl, Nat.not_lt_zero, Int32.reduceLE, Int32.reduceLT, eq_self, b01_0, b10_0, ix_l, vsi_i, vsi_l, vsi_r, vsi_k, vsi_n, vsi_w, vsl_i, vsl_l, vsl_r, vsl_k, vsl_n, vsl_w, vsr_i, vsr_l, vsr_r, vsr_k, vsr_n, vsr_w, and_self, and_true, true_and, and_false, false_and, or_self, or_true, true_or, or_false, false_or, not_true_eq_false, not_false_eq_true, ne_eq, eq_self, reduceCtorEq, Nat.reduceEqDiff, Nat.reduceAdd, Nat.reduceMul, Nat.reduceSub, Nat.reduceLT, Nat.reduceLeDiff, Nat.reduceDiv, Nat.add_zero, Nat.zero_add, Nat.not_lt_zero, Nat.zero_le, Nat.le_refl, Nat.lt_irrefl, h.nw, g, hv, q]
    · rw [q] at hv
      have q2 : (zn d = (-1 : Int32)) = False := zn_eq_m (by omega)
      simp (disch := omega) only [x_compounds_L4, ↓lt_u, ↓jn_u, ↓bd_s, bd_s, ↓rf_s, rf_s, ↓nl_s, ↓nl_n, nl_s, nl_n, ↓reduceIte, ↓ckb24, ↓ckb256, ckb_T, ckb01, ↓ck_zn, ↓ck_l, ck_zn, ck_l, z_ne_o, o_ne_z, zn_addl, zn_le, ix_zn, l_le_zn, zn_lt_l, l_lt_zn, zn_lt, Nat.zero_le, Nat.le_refl, Nat.not_lt_zero, Int32.reduceLE, Int32.reduceLT, eq_self, b01_0, b10_0, ix_l, vsi_i, vsi_l, vsi_r, vsi_k, vsi_n, vsi_w, vsl_i, vsl_l, vsl_r, vsl_k, vsl_n, vsl_w, vsr_i, vsr_l, vsr_r, vsr_k, vsr_n, vsr_w, and_self, and_true, true_and, and_false, false_and, or_self, or_true, true_or, or_false, false_or, not_true_eq_false, not_false_eq_true, ne_eq, eq_self, reduceCtorEq, Nat.reduceEqDiff, Nat.reduceAdd, Nat.reduceMul, Nat.reduceSub, Nat.reduceLT, Nat.reduceLeDiff, Nat.reduceDiv, Nat.add_zero, Nat.zero_add, Nat.not_lt_zero, Nat.zero_le, Nat.le_refl, Nat.lt_irrefl, h.nw, g, hv, q, q2]
  · show x_compounds_L4 (n + 1) _ (zn C.nw) M = _
    rw [x_compounds_L4, h.nw, if_pos (Int32.le_refl _)]
    rfl
theorem ms_compounds (h : CY 83 C M) : m_count_L129 FU 0 0 M = some (cmp C, M) := by
  have b := h.ok.nw10
  refine nlp (fun n k s => m_count_L129 n s (zn k) M) C.nw FU (FU_lt (by omega)) (fun w s => s ||| (if C.sc w = -1 then 0 else (1 : Int32) <<< (zn w &&& 31))) 0 _ (fun n k hk => ?_) (fun n => ?_)
  · have g : ¬ C.nw ≤ k := by omega
    have hv := h.sc k hk
    by_cases q : C.sc k = -1
    · simp (disch := omega) only [m_count_L129, ↓lt_u, ↓jn_u, ↓bd_s, bd_s, ↓rf_s, rf_s, ↓nl_s, ↓nl_n, nl_s, nl_n, ↓reduceIte, ↓ckb24, ↓ckb256, ckb_T, ckb01, ↓ck_zn, ↓ck_l, ck_zn, ck_l, z_ne_o, o_ne_z, zn_addl, zn_le, ix_zn, l_le_zn, zn_lt_l, l_lt_zn, zn_lt, Nat.zero_le, Nat.le_refl, Nat.not_lt_zero, Int32.reduceLE, Int32.reduceLT, eq_self, b01_0, b10_0, ix_l, vsi_i, vsi_l, vsi_r, vsi_k, vsi_n, vsi_w, vsl_i, vsl_l, vsl_r, vsl_k, vsl_n, vsl_w, vsr_i, vsr_l, vsr_r, vsr_k, vsr_n, vsr_w, and_self, and_true, true_and, and_false, false_and, or_self, or_true, true_or, or_false, false_or, not_true_eq_false, not_false_eq_true, ne_eq, eq_self, reduceCtorEq, Nat.reduceEqDiff, Nat.reduceAdd, Nat.reduceMul, Nat.reduceSub, Nat.reduceLT, Nat.reduceLeDiff, Nat.reduceDiv, Nat.add_zero, Nat.zero_add, Nat.not_lt_zero, Nat.zero_le, Nat.le_refl, Nat.lt_irrefl, zn_mull, h.nw, g, hv, q]
    · simp (disch := omega) only [m_count_L129, ↓lt_u, ↓jn_u, ↓bd_s, bd_s, ↓rf_s, rf_s, ↓nl_s, ↓nl_n, nl_s, nl_n, ↓reduceIte, ↓ckb24, ↓ckb256, ckb_T, ckb01, ↓ck_zn, ↓ck_l, ck_zn, ck_l, z_ne_o, o_ne_z, zn_addl, zn_le, ix_zn, l_le_zn, zn_lt_l, l_lt_zn, zn_lt, Nat.zero_le, Nat.le_refl, Nat.not_lt_zero, Int32.reduceLE, Int32.reduceLT, eq_self, b01_0, b10_0, ix_l, vsi_i, vsi_l, vsi_r, vsi_k, vsi_n, vsi_w, vsl_i, vsl_l, vsl_r, vsl_k, vsl_n, vsl_w, vsr_i, vsr_l, vsr_r, vsr_k, vsr_n, vsr_w, and_self, and_true, true_and, and_false, false_and, or_self, or_true, true_or, or_false, false_or, not_true_eq_false, not_false_eq_true, ne_eq, eq_self, reduceCtorEq, Nat.reduceEqDiff, Nat.reduceAdd, Nat.reduceMul, Nat.reduceSub, Nat.reduceLT, Nat.reduceLeDiff, Nat.reduceDiv, Nat.add_zero, Nat.zero_add, Nat.not_lt_zero, Nat.zero_le, Nat.le_refl, Nat.lt_irrefl, zn_mull, h.nw, g, hv, q]
  · show m_count_L129 (n + 1) _ (zn C.nw) M = _
    rw [m_count_L129, h.nw, if_pos (Int32.le_refl _)]
    rfl
theorem call_count (p : Int32) : Call (x_count p) (m_count p) := by
  refine Call.look (fun C A nT bT nU U ch K l M hR => ?_)
  have hx := hR.x
  have b := hx.ok.nt4
  have cs : p = 0 ∨ p = 1 ∨ p = 2 ∨ p = 3 ∨ p = 4 ∨ p = 5 ∨ p = 6 ∨ p = 7 ∨ p = 8 ∨ p = 9 ∨ p = 10 ∨ p = 11 ∨ (¬ p = 0 ∧ ¬ p = 1 ∧ ¬ p = 2 ∧ ¬ p = 3 ∧ ¬ p = 4 ∧ ¬ p = 5 ∧ ¬ p = 6 ∧ ¬ p = 7 ∧ ¬ p = 8 ∧ ¬ p = 9 ∧ ¬ p = 10 ∧ ¬ p = 11) := by
    rcases Classical.em (p = 0) with e | e0; · exact Or.inl e
    rcases Classical.em (p = 1) with e | e1; · exact Or.inr (Or.inl e)
    rcases Classical.em (p = 2) with e | e2; · exact Or.inr (Or.inr (Or.inl e))
    rcases Classical.em (p = 3) with e | e3; · exact Or.inr (Or.inr (Or.inr (Or.inl e)))
    rcases Classical.em (p = 4) with e | e4; · exact Or.inr (Or.inr (Or.inr (Or.inr (Or.inl e))))
    rcases Classical.em (p = 5) with e | e5; · exact Or.inr (Or.inr (Or.inr (Or.inr (Or.inr (Or.inl e)))))
    rcases Classical.em (p = 6) with e | e6; · exact Or.inr (Or.inr (Or.inr (Or.inr (Or.inr (Or.inr (Or.inl e))))))
    rcases Classical.em (p = 7) with e | e7; · exact Or.inr (Or.inr (Or.inr (Or.inr (Or.inr (Or.inr (Or.inr (Or.inl e)))))))
    rcases Classical.em (p = 8) with e | e8; · exact Or.inr (Or.inr (Or.inr (Or.inr (Or.inr (Or.inr (Or.inr (Or.inr (Or.inl e))))))))
    rcases Classical.em (p = 9) with e | e9; · exact Or.inr (Or.inr (Or.inr (Or.inr (Or.inr (Or.inr (Or.inr (Or.inr (Or.inr (Or.inl e)))))))))
    rcases Classical.em (p = 10) with e | e10; · exact Or.inr (Or.inr (Or.inr (Or.inr (Or.inr (Or.inr (Or.inr (Or.inr (Or.inr (Or.inr (Or.inl e))))))))))
    rcases Classical.em (p = 11) with e | e11; · exact Or.inr (Or.inr (Or.inr (Or.inr (Or.inr (Or.inr (Or.inr (Or.inr (Or.inr (Or.inr (Or.inr (Or.inl e)))))))))))
    exact Or.inr (Or.inr (Or.inr (Or.inr (Or.inr (Or.inr (Or.inr (Or.inr (Or.inr (Or.inr (Or.inr (Or.inr ⟨e0, e1, e2, e3, e4, e5, e6, e7, e8, e9, e10, e11⟩)))))))))))
  rcases cs with e | e | e | e | e | e | e | e | e | e | e | e | ⟨e0, e1, e2, e3, e4, e5, e6, e7, e8, e9, e10, e11⟩
  · subst e
    exact ⟨zn C.ns, by show some (_, M) = _; rw [hx.ns], fun _ _ _ N hN hy hb ht hu hl => by subst hN; show some (_, _) = _; rw [hy.ns]⟩
  · subst e
    exact ⟨zn C.nw, by show some (_, M) = _; rw [hx.nw], fun _ _ _ N hN hy hb ht hu hl => by subst hN; show some (_, _) = _; rw [hy.nw]⟩
  · subst e
    exact ⟨zn C.nt, by show some (_, M) = _; rw [hx.nt], fun _ _ _ N hN hy hb ht hu hl => by subst hN; show some (_, _) = _; rw [hy.nt]⟩
  · subst e
    exact ⟨zn C.ne, by show some (_, M) = _; rw [hx.ne], fun _ _ _ N hN hy hb ht hu hl => by subst hN; show some (_, _) = _; rw [hy.ne]⟩
  · subst e
    exact ⟨A 12, by show some (_, M) = _; rw [hx12 hR.a], fun _ _ _ N hN hy hb ht hu hl => by subst hN; show ck 12 44 (some (_, _)) = _; rw [ck12, ix12, hy12 hb]⟩
  · subst e
    exact ⟨A 13, by show some (_, M) = _; rw [hx13 hR.a], fun _ _ _ N hN hy hb ht hu hl => by subst hN; show ck 13 44 (some (_, _)) = _; rw [ck13, ix13, hy13 hb]⟩
  · subst e
    exact ⟨smA A 14 30, by unfold x_count; rw [if_neg (by decide), if_neg (by decide), if_neg (by decide), if_neg (by decide), if_neg (by decide), if_neg (by decide), if_pos rfl, xs_heard0 hx.sh hR.a, bd_s], fun _ _ _ N hN hy hb ht hu hl => by subst hN; unfold m_count; rw [lt_u, if_neg (by decide), if_neg (by decide), if_neg (by decide), if_neg (by decide), if_neg (by decide), if_neg (by decide), if_pos rfl]; show bd (m_sumOf (zn 14) (zn 30) _) _ = _; rw [ms_sumOf hy.sh hb (by omega), bd_s]⟩
  · subst e
    exact ⟨smA A 4 C.nt, by unfold x_count; rw [if_neg (by decide), if_neg (by decide), if_neg (by decide), if_neg (by decide), if_neg (by decide), if_neg (by decide), if_neg (by decide), if_pos rfl, xs_purses hx hR.a, bd_s], fun _ _ _ N hN hy hb ht hu hl => by subst hN; unfold m_count; rw [lt_u, if_neg (by decide), if_neg (by decide), if_neg (by decide), if_neg (by decide), if_neg (by decide), if_neg (by decide), if_neg (by decide), if_pos rfl, hy.nt]; show bd (m_sumOf (zn 4) _ _) _ = _; rw [ms_sumOf hy.sh hb (by omega), bd_s]⟩
  · subst e
    exact ⟨cmp C, by unfold x_count; rw [if_neg (by decide), if_neg (by decide), if_neg (by decide), if_neg (by decide), if_neg (by decide), if_neg (by decide), if_neg (by decide), if_neg (by decide), if_pos rfl, xs_compounds hx, bd_s], fun _ _ _ N hN hy hb ht hu hl => by subst hN; unfold m_count; rw [lt_u, if_neg (by decide), if_neg (by decide), if_neg (by decide), if_neg (by decide), if_neg (by decide), if_neg (by decide), if_neg (by decide), if_neg (by decide), if_pos rfl, ms_compounds hy]⟩
  · subst e
    exact ⟨zn nU, by show some (_, M) = _; rw [hR.2.2.2.1.1.2.1], fun _ _ _ N hN hy hb ht hu hl => by subst hN; show some (_, _) = _; rw [hu.1]⟩
  · subst e
    exact ⟨zn l.length, by show some (_, M) = _; rw [hR.lx.1], fun _ _ _ N hN hy hb ht hu hl => by subst hN; show some (_, _) = _; rw [hl.1]⟩
  · subst e
    exact ⟨zn nT, by show some (_, M) = _; rw [hR.2.2.1.1.2.1], fun _ _ _ N hN hy hb ht hu hl => by subst hN; show some (_, _) = _; rw [ht.2.1]⟩
  · refine ⟨-1, ?_, fun _ _ _ N hN hy hb ht hu hl => ?_⟩
    · unfold x_count
      rw [if_neg e0, if_neg e1, if_neg e2, if_neg e3, if_neg e4, if_neg e5, if_neg e6, if_neg e7, if_neg e8, if_neg e9, if_neg e10, if_neg e11]
    · subst hN
      unfold m_count
      rw [lt_u, if_neg e0, if_neg e1, if_neg e2, if_neg e3, if_neg e4, if_neg e5, if_neg e6, if_neg e7, if_neg e8, if_neg e9, if_neg e10, if_neg e11]
end
