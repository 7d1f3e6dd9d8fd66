set_option maxRecDepth 100000
/-! QUERIES, one by one -/
section
variable {C : SV} {A : Nat → Int32} {M M1 : PM} {l : List Int64}
theorem hx12 (h : RvX 21 A M) : M.i 21 4 = A 12 := h.2.1
theorem hx13 (h : RvX 21 A M) : M.i 21 5 = A 13 := h.2.2.1
theorem hy12 (h : RvY 73 A M) : M.i 73 12 = A 12 := h 12 (by omega)
theorem hy13 (h : RvY 73 A M) : M.i 73 13 = A 13 := h 13 (by omega)
theorem RvX.fx (h : RvX 21 A M) (f : Fq xq M M1) : RvX 21 A M1 := h.fr f (fun o j q => by unfold rdc at q; unfold xq ts; omega)
theorem RvX.fa (h : RvX 21 A M) (f : Fq ca M M1) : RvX 21 A M1 := h.fr f (fun o j q => by unfold rdc at q; unfold ca; omega)
theorem RvY.fy (h : RvY 73 A M) (f : Fq yq M M1) : RvY 73 A M1 := h.fr f (fun j => by unfold yq ts; omega)
theorem RvY.fa (h : RvY 73 A M) (f : Fq ca M M1) : RvY 73 A M1 := h.fr f (fun j => by unfold ca; omega)
theorem f67 : Fq xq M (M.si 20 67 0) := Fq.rf.si (by unfold xq; omega)
theorem f12 : Fq yq M (M.si 72 12 0) := Fq.rf.si (by unfold yq; omega)
theorem f13 : Fq yq M (M.si 72 13 0) := Fq.rf.si (by unfold yq; omega)
theorem ly13 (h : LY l M) : LY l (M.si 72 13 0) := h.fr (c := fun o j => o = 72 ∧ j = 13) (Fq.rf.si ⟨rfl, rfl⟩) (by omega) (fun j => by omega)
theorem xt_in {p n : Nat} (h : p ≤ n) (hn : n < 2147483648) (M : PM) : x_in (zn p).toInt64 0 (zn n).toInt64 M = some (1, M) := by
  rw [x_in0, if_pos]
  rw [zn_le (by omega) hn]
  exact ⟨zn_nonneg (by omega), h⟩
theorem xn_in {p : Int32} {n : Nat} (h : ¬ (0 ≤ p ∧ p ≤ zn n)) (M : PM) : x_in p.toInt64 0 (zn n).toInt64 M = some (0, M) := by
  rw [x_in0, if_neg h]
theorem mt_in {p n : Nat} (h : p ≤ n) (hn : n < 2147483648) (M : PM) : m_in (zn p) 0 (zn n) M = some (1, M) := by
  rw [m_in32, if_pos]
  rw [zn_le (by omega) hn]
  exact ⟨zn_nonneg (by omega), h⟩
theorem mn_in {p : Int32} {n : Nat} (h : ¬ (0 ≤ p ∧ p ≤ zn n)) (M : PM) : m_in p 0 (zn n) M = some (0, M) := by
  rw [m_in32, if_neg h]
theorem xt_1 {p : Nat} (h : p ≤ 1) (M : PM) : x_in (zn p).toInt64 0 1 M = some (1, M) := xt_in (n := 1) h (by omega) M
theorem xn_1 {p : Int32} (h : ¬ (0 ≤ p ∧ p ≤ 1)) (M : PM) : x_in p.toInt64 0 1 M = some (0, M) := xn_in (n := 1) h M
theorem mt_1 {p : Nat} (h : p ≤ 1) (M : PM) : m_in (zn p) 0 1 M = some (1, M) := mt_in (n := 1) h (by omega) M
theorem mn_1 {p : Int32} (h : ¬ (0 ≤ p ∧ p ≤ 1)) (M : PM) : m_in p 0 1 M = some (0, M) := mn_in (n := 1) h M
theorem xt_2 {p : Nat} (h : p ≤ 2) (M : PM) : x_in (zn p).toInt64 0 2 M = some (1, M) := xt_in (n := 2) h (by omega) M
theorem xn_2 {p : Int32} (h : ¬ (0 ≤ p ∧ p ≤ 2)) (M : PM) : x_in p.toInt64 0 2 M = some (0, M) := xn_in (n := 2) h M
theorem mt_2 {p : Nat} (h : p ≤ 2) (M : PM) : m_in (zn p) 0 2 M = some (1, M) := mt_in (n := 2) h (by omega) M
theorem mn_2 {p : Int32} (h : ¬ (0 ≤ p ∧ p ≤ 2)) (M : PM) : m_in p 0 2 M = some (0, M) := mn_in (n := 2) h M
theorem xt_3 {p : Nat} (h : p ≤ 3) (M : PM) : x_in (zn p).toInt64 0 3 M = some (1, M) := xt_in (n := 3) h (by omega) M
theorem xn_3 {p : Int32} (h : ¬ (0 ≤ p ∧ p ≤ 3)) (M : PM) : x_in p.toInt64 0 3 M = some (0, M) := xn_in (n := 3) h M
theorem mt_3 {p : Nat} (h : p ≤ 3) (M : PM) : m_in (zn p) 0 3 M = some (1, M) := mt_in (n := 3) h (by omega) M
theorem mn_3 {p : Int32} (h : ¬ (0 ≤ p ∧ p ≤ 3)) (M : PM) : m_in p 0 3 M = some (0, M) := mn_in (n := 3) h M
theorem xt_4 {p : Nat} (h : p ≤ 4) (M : PM) : x_in (zn p).toInt64 0 4 M = some (1, M) := xt_in (n := 4) h (by omega) M
theorem xn_4 {p : Int32} (h : ¬ (0 ≤ p ∧ p ≤ 4)) (M : PM) : x_in p.toInt64 0 4 M = some (0, M) := xn_in (n := 4) h M
theorem mt_4 {p : Nat} (h : p ≤ 4) (M : PM) : m_in (zn p) 0 4 M = some (1, M) := mt_in (n := 4) h (by omega) M
theorem mn_4 {p : Int32} (h : ¬ (0 ≤ p ∧ p ≤ 4)) (M : PM) : m_in p 0 4 M = some (0, M) := mn_in (n := 4) h M
theorem xt_6 {p : Nat} (h : p ≤ 6) (M : PM) : x_in (zn p).toInt64 0 6 M = some (1, M) := xt_in (n := 6) h (by omega) M
theorem xn_6 {p : Int32} (h : ¬ (0 ≤ p ∧ p ≤ 6)) (M : PM) : x_in p.toInt64 0 6 M = some (0, M) := xn_in (n := 6) h M
theorem mt_6 {p : Nat} (h : p ≤ 6) (M : PM) : m_in (zn p) 0 6 M = some (1, M) := mt_in (n := 6) h (by omega) M
theorem mn_6 {p : Int32} (h : ¬ (0 ≤ p ∧ p ≤ 6)) (M : PM) : m_in p 0 6 M = some (0, M) := mn_in (n := 6) h M
theorem xt_8 {p : Nat} (h : p ≤ 8) (M : PM) : x_in (zn p).toInt64 0 8 M = some (1, M) := xt_in (n := 8) h (by omega) M
theorem xn_8 {p : Int32} (h : ¬ (0 ≤ p ∧ p ≤ 8)) (M : PM) : x_in p.toInt64 0 8 M = some (0, M) := xn_in (n := 8) h M
theorem mt_8 {p : Nat} (h : p ≤ 8) (M : PM) : m_in (zn p) 0 8 M = some (1, M) := mt_in (n := 8) h (by omega) M
theorem mn_8 {p : Int32} (h : ¬ (0 ≤ p ∧ p ≤ 8)) (M : PM) : m_in p 0 8 M = some (0, M) := mn_in (n := 8) h M
theorem xt_9 {p : Nat} (h : p ≤ 9) (M : PM) : x_in (zn p).toInt64 0 9 M = some (1, M) := xt_in (n := 9) h (by omega) M
theorem xn_9 {p : Int32} (h : ¬ (0 ≤ p ∧ p ≤ 9)) (M : PM) : x_in p.toInt64 0 9 M = some (0, M) := xn_in (n := 9) h M
theorem mt_9 {p : Nat} (h : p ≤ 9) (M : PM) : m_in (zn p) 0 9 M = some (1, M) := mt_in (n := 9) h (by omega) M
theorem mn_9 {p : Int32} (h : ¬ (0 ≤ p ∧ p ≤ 9)) (M : PM) : m_in p 0 9 M = some (0, M) := mn_in (n := 9) h M
theorem xt_10 {p : Nat} (h : p ≤ 10) (M : PM) : x_in (zn p).toInt64 0 10 M = some (1, M) := xt_in (n := 10) h (by omega) M
theorem xn_10 {p : Int32} (h : ¬ (0 ≤ p ∧ p ≤ 10)) (M : PM) : x_in p.toInt64 0 10 M = some (0, M) := xn_in (n := 10) h M
theorem mt_10 {p : Nat} (h : p ≤ 10) (M : PM) : m_in (zn p) 0 10 M = some (1, M) := mt_in (n := 10) h (by omega) M
theorem mn_10 {p : Int32} (h : ¬ (0 ≤ p ∧ p ≤ 10)) (M : PM) : m_in p 0 10 M = some (0, M) := mn_in (n := 10) h M
theorem xt_12 {p : Nat} (h : p ≤ 12) (M : PM) : x_in (zn p).toInt64 0 12 M = some (1, M) := xt_in (n := 12) h (by omega) M
theorem xn_12 {p : Int32} (h : ¬ (0 ≤ p ∧ p ≤ 12)) (M : PM) : x_in p.toInt64 0 12 M = some (0, M) := xn_in (n := 12) h M
theorem mt_12 {p : Nat} (h : p ≤ 12) (M : PM) : m_in (zn p) 0 12 M = some (1, M) := mt_in (n := 12) h (by omega) M
theorem mn_12 {p : Int32} (h : ¬ (0 ≤ p ∧ p ≤ 12)) (M : PM) : m_in p 0 12 M = some (0, M) := mn_in (n := 12) h M
theorem xt_99 {p : Nat} (h : p ≤ 99) (M : PM) : x_in (zn p).toInt64 0 99 M = some (1, M) := xt_in (n := 99) h (by omega) M
theorem xn_99 {p : Int32} (h : ¬ (0 ≤ p ∧ p ≤ 99)) (M : PM) : x_in p.toInt64 0 99 M = some (0, M) := xn_in (n := 99) h M
theorem mt_99 {p : Nat} (h : p ≤ 99) (M : PM) : m_in (zn p) 0 99 M = some (1, M) := mt_in (n := 99) h (by omega) M
theorem mn_99 {p : Int32} (h : ¬ (0 ≤ p ∧ p ≤ 99)) (M : PM) : m_in p 0 99 M = some (0, M) := mn_in (n := 99) h M
theorem xt_9999 {p : Nat} (h : p ≤ 9999) (M : PM) : x_in (zn p).toInt64 0 9999 M = some (1, M) := xt_in (n := 9999) h (by omega) M
theorem xn_9999 {p : Int32} (h : ¬ (0 ≤ p ∧ p ≤ 9999)) (M : PM) : x_in p.toInt64 0 9999 M = some (0, M) := xn_in (n := 9999) h M
theorem mt_9999 {p : Nat} (h : p ≤ 9999) (M : PM) : m_in (zn p) 0 9999 M = some (1, M) := mt_in (n := 9999) h (by omega) M
theorem mn_9999 {p : Int32} (h : ¬ (0 ≤ p ∧ p ≤ 9999)) (M : PM) : m_in p 0 9999 M = some (0, M) := mn_in (n := 9999) h M
theorem ix12 : ix 12 = 12 := ix_zn (k := 12) (by omega)
theorem ix13 : ix 13 = 13 := ix_zn (k := 13) (by omega)
theorem ck12 {α : Type} {x : Option α} : ck 12 44 x = x := ck_zn (a := 12) (by omega) (by omega)
theorem ck13 {α : Type} {x : Option α} : ck 13 44 x = x := ck_zn (a := 13) (by omega) (by omega)
theorem mt_mean {p : Nat} (h : p ≤ 9) (M : PM) : m_isMeaning (zn p) M = some (1, M) := by
  rw [ms_isMeaning, if_pos]
  rw [l_le_zn (by omega) (by omega), zn_le_l (by omega) (by omega)]
  omega
theorem mn_mean {p : Int32} (h : ¬ (0 ≤ p ∧ p ≤ 9)) (M : PM) : m_isMeaning p M = some (0, M) := by
  rw [ms_isMeaning, if_neg h]
theorem two15 (a b : Int64) : [a, b].length ≤ 15 := by show 2 ≤ 15; omega
theorem one15 (a : Int64) : [a].length ≤ 15 := by show 1 ≤ 15; omega
/-- two rows that are told, one behind another -/
theorem xs_tell0 (M : PM) (a : Int64) : ∃ M1, x_tells a (M.si 20 67 0) = some ((), M1) ∧ Fq rwx M M1 ∧ LX [a] M1 := by
  obtain ⟨M1, e, f, l⟩ := xs_tells (lx0 M) (by show 0 < 16; omega) a
  exact ⟨M1, e, (Fq.rf.si (by unfold rwx; omega)).tr f, l⟩
theorem ms_tell0 (M : PM) (a : Int64) : ∃ M1, m_tell a (M.si 72 12 0) = some ((), M1) ∧ Fq rwy M M1 ∧ LY [a] M1 := by
  obtain ⟨M1, e, f, l⟩ := ms_tell (ly0 M) (by show 0 < 20; omega) a
  exact ⟨M1, e, (Fq.rf.si (by unfold rwy; omega)).tr f, l⟩
theorem xs_tell1 {a : Int64} (h : LX [a] M) (b : Int64) : ∃ M1, x_tells b M = some ((), M1) ∧ Fq rwx M M1 ∧ LX [a, b] M1 := xs_tells h (by show 1 < 16; omega) b
theorem ms_tell1 {a : Int64} (h : LY [a] M) (b : Int64) : ∃ M1, m_tell b M = some ((), M1) ∧ Fq rwy M M1 ∧ LY [a, b] M1 := ms_tell h (by show 1 < 20; omega) b
/-! toll -/
def tolL (C : SV) (w : Nat) (st hr : Int32) (n : Nat) : List Int64 := itr (fun v l => l ++ [(tov C w st hr (zn v)).toInt64]) n []
theorem tolL_len (C : SV) (w : Nat) (st hr : Int32) (n : Nat) : (tolL C w st hr n).length = n := by
  induction n with
  | zero => rfl
  | succ n ih =>
    show (tolL C w st hr n ++ [_]).length = n + 1
    rw [List.length_append, ih]
    rfl
theorem xq_toll {w s : Nat} (hw : w < C.nw) (hs : s < C.ns) : QX C A l (tolL C w (zn s) (A 12) 5) (tol C w (zn s) (A 12)) (x_toll (zn w) (zn s)) := by
  intro M h ha _ hl
  obtain ⟨M1, e1, f1, v1⟩ := xs_tollOf h hw (zn s) (A 12)
  have e1' : x_tollOf (zn w) (zn s) (M.i 21 4) M = some (tol C w (zn s) (A 12), M1) := by rw [hx12 ha, e1]
  have hun : x_toll (zn w) (zn s) M = x_toll_L40 (tol C w (zn s) (A 12)) FU 0 (M1.si 20 67 0) := by
    unfold x_toll
    rw [bde (xt_word h hw), if_neg (by decide), bde (xt_stat h hs), if_neg (by decide), bde e1', lt_u]
  rw [hun]
  have := wlp (fun n k (_ : Unit) M2 => x_toll_L40 (tol C w (zn s) (A 12)) n (zn k) M2) 5 FU (FU_lt (by omega)) (fun _ s => s) () (fun k M2 => Fq xq M M2 ∧ LX (tolL C w (zn s) (A 12) k) M2 ∧ ∀ v, v < 5 → M2.i 50 v = tov C w (zn s) (A 12) (zn v)) (fun o => ∃ M2, o = some (tol C w (zn s) (A 12), M2) ∧ Fq xq M M2 ∧ LX (tolL C w (zn s) (A 12) 5) M2) (fun n k M2 hk hI => ?_) (fun n M2 hI => ?_) (M1.si 20 67 0) ⟨f1.x.tr f67, lx0 _, fun v hv => ?_⟩
  · exact this
  · obtain ⟨i1, i2, i3⟩ := hI
    obtain ⟨M3, e3, f3, l3⟩ := xs_tells i2 (by rw [tolL_len]; omega) ((tov C w (zn s) (A 12) (zn k)).toInt64)
    have g : ¬ 5 ≤ k := by omega
    refine ⟨M3, ⟨i1.tr f3.wx, l3, fun v hv => ?_⟩, ?_⟩
    · rw [f3.i 50 v (by unfold rwx; omega)]; exact i3 v hv
    · simp (disch := omega) only [x_toll_L40, ↓lt_u, ↓jn_u, ↓bd_s, bd_s, ↓rf_s, rf_s, ↓nl_s, ↓nl_n, nl_s, nl_n, ↓reduceIte, ↓ckb24, ↓ckb256, ckb_T, ckb01, ↓ck_zn, ↓ck_l, ck_zn, ck_l, vsi_i, vsi_l, vsi_r, vsi_k, vsi_n, vsi_w, vsl_i, vsl_l, vsl_r, vsl_k, vsl_n, vsl_w, vsr_i, vsr_l, vsr_r, vsr_k, vsr_n, vsr_w, and_self, and_true, true_and, and_false, false_and, or_self, or_true, true_or, or_false, false_or, not_true_eq_false, not_false_eq_true, ne_eq, eq_self, reduceCtorEq, Nat.reduceEqDiff, Nat.reduceAdd, Nat.reduceMul, Nat.reduceSub, Nat.reduceLT, Nat.reduceLeDiff, Nat.reduceDiv, Nat.add_zero, Nat.zero_add, Nat.not_lt_zero, Nat.zero_le, Nat.le_refl, Nat.lt_irrefl, l_eq_l, m_eq_l, l_eq_m, Int32.reduceLT, Int32.reduceLE, Int32.reduceAdd, Int32.reduceSub, Int32.reduceMul, b01_0, b01_1, b10_0, z_ne_o, o_ne_z, zn_add, zn_addl, zn_ladd, zn_mull, zn_subl, ix_zn, ix_l, ck_zn, ck_l, zn_le, zn_le_l, l_le_zn, zn_lt, zn_lt_l, l_lt_zn, zn_eq, zn_eq_l, l_eq_zn, zn_eq_m, m_eq_zn, m_le_zn, zn_lt_m, imin_zn, imax_zn, zn_le_m, g, i3 k hk, e3]
  · exact ⟨M2, by simp (disch := omega) only [x_toll_L40, ↓lt_u, ↓jn_u, ↓bd_s, bd_s, ↓rf_s, rf_s, ↓nl_s, ↓nl_n, nl_s, nl_n, ↓reduceIte, ↓ckb24, ↓ckb256, ckb_T, ckb01, ↓ck_zn, ↓ck_l, ck_zn, ck_l, vsi_i, vsi_l, vsi_r, vsi_k, vsi_n, vsi_w, vsl_i, vsl_l, vsl_r, vsl_k, vsl_n, vsl_w, vsr_i, vsr_l, vsr_r, vsr_k, vsr_n, vsr_w, and_self, and_true, true_and, and_false, false_and, or_self, or_true, true_or, or_false, false_or, not_true_eq_false, not_false_eq_true, ne_eq, eq_self, reduceCtorEq, Nat.reduceEqDiff, Nat.reduceAdd, Nat.reduceMul, Nat.reduceSub, Nat.reduceLT, Nat.reduceLeDiff, Nat.reduceDiv, Nat.add_zero, Nat.zero_add, Nat.not_lt_zero, Nat.zero_le, Nat.le_refl, Nat.lt_irrefl, l_eq_l, m_eq_l, l_eq_m, Int32.reduceLT, Int32.reduceLE, Int32.reduceAdd, Int32.reduceSub, Int32.reduceMul, b01_0, b01_1, b10_0, z_ne_o, o_ne_z, zn_add, zn_addl, zn_ladd, zn_mull, zn_subl, ix_zn, ix_l, ck_zn, ck_l, zn_le, zn_le_l, l_le_zn, zn_lt, zn_lt_l, l_lt_zn, zn_eq, zn_eq_l, l_eq_zn, zn_eq_m, m_eq_zn, m_le_zn, zn_lt_m, imin_zn, imax_zn, zn_le_m], hI.1, hI.2.1⟩
  · rw [si_i, if_neg (by omega)]; exact v1 v hv
theorem yq_toll {w s : Nat} (hw : w < C.nw) (hs : s < C.ns) : QY C A l (tolL C w (zn s) (A 12) 5) (tol C w (zn s) (A 12)) (m_toll (zn w) (zn s)) := by
  intro M h ha _ hl
  have h' := h.fy (f13 (M := M))
  have ha' := ha.fy (f13 (M := M))
  obtain ⟨M1, e1, f1, v1⟩ := ms_tollOf h' hw (zn s) (A 12)
  have e1' : m_tollNow (zn w) (zn s) (M.si 72 13 0) = some (tol C w (zn s) (A 12), M1) := by
    unfold m_tollNow
    rw [ck12, ix12, hy12 ha', e1, bd_s]
  have hun : m_toll (zn w) (zn s) M = m_toll_L38 (tol C w (zn s) (A 12)) FU 0 (M1.si 72 12 0) := by
    unfold m_toll
    rw [lt_u, bde (mt_word h' hw), if_neg (by decide), bde (mt_stat h' hs), if_neg (by decide), bde e1', lt_u]
  rw [hun]
  have := wlp (fun n k (_ : Unit) M2 => m_toll_L38 (tol C w (zn s) (A 12)) n (zn k) M2) 5 FU (FU_lt (by omega)) (fun _ s => s) () (fun k M2 => Fq yq M M2 ∧ LY (tolL C w (zn s) (A 12) k) M2 ∧ ∀ v, v < 5 → M2.i 86 v = tov C w (zn s) (A 12) (zn v)) (fun o => ∃ M2, o = some (tol C w (zn s) (A 12), M2) ∧ Fq yq M M2 ∧ LY (tolL C w (zn s) (A 12) 5) M2) (fun n k M2 hk hI => ?_) (fun n M2 hI => ?_) (M1.si 72 12 0) ⟨(f13.tr f1.y).tr f12, ly0 _, fun v hv => ?_⟩
  · exact this
  · obtain ⟨i1, i2, i3⟩ := hI
    obtain ⟨M3, e3, f3, l3⟩ := ms_tell i2 (by rw [tolL_len]; omega) ((tov C w (zn s) (A 12) (zn k)).toInt64)
    have g : ¬ 5 ≤ k := by omega
    refine ⟨M3, ⟨i1.tr f3.wy, l3, fun v hv => ?_⟩, ?_⟩
    · rw [f3.i 86 v (by unfold rwy; omega)]; exact i3 v hv
    · simp (disch := omega) only [m_toll_L38, ↓lt_u, ↓jn_u, ↓bd_s, bd_s, ↓rf_s, rf_s, ↓nl_s, ↓nl_n, nl_s, nl_n, ↓reduceIte, ↓ckb24, ↓ckb256, ckb_T, ckb01, ↓ck_zn, ↓ck_l, ck_zn, ck_l, vsi_i, vsi_l, vsi_r, vsi_k, vsi_n, vsi_w, vsl_i, vsl_l, vsl_r, vsl_k, vsl_n, vsl_w, vsr_i, vsr_l, vsr_r, vsr_k, vsr_n, vsr_w, and_self, and_true, true_and, and_false, false_and, or_self, or_true, true_or, or_false, false_or, not_true_eq_false, not_false_eq_true, ne_eq, eq_self, reduceCtorEq, Nat.reduceEqDiff, Nat.reduceAdd, Nat.reduceMul, Nat.reduceSub, Nat.reduceLT, Nat.reduceLeDiff, Nat.reduceDiv, Nat.add_zero, Nat.zero_add, Nat.not_lt_zero, Nat.zero_le, Nat.le_refl, Nat.lt_irrefl, l_eq_l, m_eq_l, l_eq_m, Int32.reduceLT, Int32.reduceLE, Int32.reduceAdd, Int32.reduceSub, Int32.reduceMul, b01_0, b01_1, b10_0, z_ne_o, o_ne_z, zn_add, zn_addl, zn_ladd, zn_mull, zn_subl, ix_zn, ix_l, ck_zn, ck_l, zn_le, zn_le_l, l_le_zn, zn_lt, zn_lt_l, l_lt_zn, zn_eq, zn_eq_l, l_eq_zn, zn_eq_m, m_eq_zn, m_le_zn, zn_lt_m, imin_zn, imax_zn, zn_le_m, g, i3 k hk, e3]
  · exact ⟨M2, by simp (disch := omega) only [m_toll_L38, ↓lt_u, ↓jn_u, ↓bd_s, bd_s, ↓rf_s, rf_s, ↓nl_s, ↓nl_n, nl_s, nl_n, ↓reduceIte, ↓ckb24, ↓ckb256, ckb_T, ckb01, ↓ck_zn, ↓ck_l, ck_zn, ck_l, vsi_i, vsi_l, vsi_r, vsi_k, vsi_n, vsi_w, vsl_i, vsl_l, vsl_r, vsl_k, vsl_n, vsl_w, vsr_i, vsr_l, vsr_r, vsr_k, vsr_n, vsr_w, and_self, and_true, true_and, and_false, false_and, or_self, or_true, true_or, or_false, false_or, not_true_eq_false, not_false_eq_true, ne_eq, eq_self, reduceCtorEq, Nat.reduceEqDiff, Nat.reduceAdd, Nat.reduceMul, Nat.reduceSub, Nat.reduceLT, Nat.reduceLeDiff, Nat.reduceDiv, Nat.add_zero, Nat.zero_add, Nat.not_lt_zero, Nat.zero_le, Nat.le_refl, Nat.lt_irrefl, l_eq_l, m_eq_l, l_eq_m, Int32.reduceLT, Int32.reduceLE, Int32.reduceAdd, Int32.reduceSub, Int32.reduceMul, b01_0, b01_1, b10_0, z_ne_o, o_ne_z, zn_add, zn_addl, zn_ladd, zn_mull, zn_subl, ix_zn, ix_l, ck_zn, ck_l, zn_le, zn_le_l, l_le_zn, zn_lt, zn_lt_l, l_lt_zn, zn_eq, zn_eq_l, l_eq_zn, zn_eq_m, m_eq_zn, m_le_zn, zn_lt_m, imin_zn, imax_zn, zn_le_m], hI.1, hI.2.1⟩
  · rw [si_i, if_neg (by omega)]; exact v1 v hv
theorem call_toll (p q : Int32) : Call (x_toll p q) (m_toll p q) := by
  refine Call.of (fun C A l hC hA hl => ?_)
  have b1 := hC.nw10
  have b2 := hC.ns6
  rcases dm_or (show C.nw < 2147483648 by omega) p with ⟨w, hw, rfl⟩ | hn
  · rcases dm_or (show C.ns < 2147483648 by omega) q with ⟨s, hs, rfl⟩ | hn2
    · exact ⟨_, _, by rw [tolL_len]; omega, xq_toll hw hs, yq_toll hw hs⟩
    · refine ⟨-1, l, hl, fun M h ha _ hx => ⟨M, ?_, Fq.rf, hx⟩, fun M h ha _ hx => ⟨M.si 72 13 0, ?_, f13, ly13 hx⟩⟩
      · unfold x_toll
        rw [bde (xt_word h hw), if_neg (by decide), bde (xn_stat h hn2), if_pos rfl]
      · unfold m_toll
        rw [lt_u, bde (mt_word (h.fy f13) hw), if_neg (by decide), bde (mn_stat (h.fy f13) hn2), if_pos rfl]
  · refine ⟨-1, l, hl, fun M h ha _ hx => ⟨M, ?_, Fq.rf, hx⟩, fun M h ha _ hx => ⟨M.si 72 13 0, ?_, f13, ly13 hx⟩⟩
    · unfold x_toll
      rw [bde (xn_word h hn), if_pos rfl]
    · unfold m_toll
      rw [lt_u, bde (mn_word (h.fy f13) hn), if_pos rfl]
/-! cheapest -/
def mny (C : SV) (m : Int32) : Int32 := itr (fun w s => s + (if mns C w m then 1 else 0)) C.nw 0
theorem xq_cheapestN {m s : Nat} (hm : m ≤ 9) (hs : s < C.ns) (hb : chw C (A 12) (zn m) (zn s) 0 = -1) : QX C A l l (-2) (x_cheapest (zn m) (zn s)) := by
  intro M h ha _ hl
  obtain ⟨M1, e1, f1⟩ := xs_cheapestFor h (zn m) (zn s) 0
  rw [hx12 ha, hb] at e1
  refine ⟨M1, ?_, f1.x, hl.fa f1⟩
  unfold x_cheapest
  rw [bde (xt_9 hm M), if_neg (by decide), bde (xt_stat h hs), if_neg (by decide), bde e1, if_neg (by decide)]
theorem xq_cheapest {m s b : Nat} (hm : m ≤ 9) (hs : s < C.ns) (hbw : b < C.nw) (hb : chw C (A 12) (zn m) (zn s) 0 = zn b) : QX C A l [(tol C b (zn s) (A 12)).toInt64, (mny C (zn m)).toInt64] (zn b) (x_cheapest (zn m) (zn s)) := by
  intro M h ha _ hl
  have b1 := h.ok.nw10
  obtain ⟨M1, e1, f1⟩ := xs_cheapestFor h (zn m) (zn s) 0
  rw [hx12 ha, hb] at e1
  have h1 := h.fa f1
  obtain ⟨M2, e2, f2⟩ := xs_tollNow (h1.fx (f67 (M := M1))) hbw (zn s)
  have e12 : (M1.si 20 67 0).i 21 4 = A 12 := by rw [si_i, if_neg (by omega)]; exact hx12 (ha.fa f1)
  rw [e12] at e2
  obtain ⟨M3, e3, f3, l3⟩ := xs_tells (LX.fa (lx0 M1) f2) (by show 0 < 16; omega) ((tol C b (zn s) (A 12)).toInt64)
  obtain ⟨M4, e4, f4, l4⟩ := xs_tell1 l3 ((mny C (zn m)).toInt64)
  refine ⟨M4, ?_, (((f1.x.tr f67).tr f2.x).tr f3.wx).tr f4.wx, l4⟩
  have hl := nlp (fun n k s2 => x_cheapest_L43 (zn m) (zn s) (zn b) (fun (v10 : Int32) (M6 : PM) => lt (M6.si 20 67 0) fun M7 => bd (x_tollNow (zn b) (zn s) M7) fun v11 M8 => bd (x_tells (Int32.toInt64 v11) M8) fun _ M9 => bd (x_tells (Int32.toInt64 v10) M9) fun _ M10 => some (zn b, M10)) n s2 (zn k) M1) C.nw FU (FU_lt (by omega)) (fun w s => s + (if mns C w (zn m) then 1 else 0)) 0 (some (zn b, M4)) (fun n k hk => ?_) (fun n => ?_)
  · unfold x_cheapest
    rw [bde (xt_9 hm M), if_neg (by decide), bde (xt_stat h hs), if_neg (by decide), bde e1, if_pos (zn_nonneg (by omega))]
    exact hl
  · have g : ¬ C.nw ≤ k := by omega
    by_cases q : mns C k (zn m)
    · simp (disch := omega) only [x_cheapest_L43, ↓lt_u, ↓jn_u, ↓bd_s, bd_s, ↓rf_s, rf_s, ↓nl_s, ↓nl_n, nl_s, nl_n, ↓reduceIte, ↓ckb24, ↓ckb256, ckb_T, ckb01, ↓ck_zn, ↓ck_l, ck_zn, ck_l, vsi_i, vsi_l, vsi_r, vsi_k, vsi_n, vsi_w, vsl_i, vsl_l, vsl_r, vsl_k, vsl_n, vsl_w, vsr_i, vsr_l, vsr_r, vsr_k, vsr_n, vsr_w, and_self, and_true, true_and, and_false, false_and, or_self, or_true, true_or, or_false, false_or, not_true_eq_false, not_false_eq_true, ne_eq, eq_self, reduceCtorEq, Nat.reduceEqDiff, Nat.reduceAdd, Nat.reduceMul, Nat.reduceSub, Nat.reduceLT, Nat.reduceLeDiff, Nat.reduceDiv, Nat.add_zero, Nat.zero_add, Nat.not_lt_zero, Nat.zero_le, Nat.le_refl, Nat.lt_irrefl, l_eq_l, m_eq_l, l_eq_m, Int32.reduceLT, Int32.reduceLE, Int32.reduceAdd, Int32.reduceSub, Int32.reduceMul, b01_0, b01_1, b10_0, z_ne_o, o_ne_z, zn_add, zn_addl, zn_ladd, zn_mull, zn_subl, ix_zn, ix_l, ck_zn, ck_l, zn_le, zn_le_l, l_le_zn, zn_lt, zn_lt_l, l_lt_zn, zn_eq, zn_eq_l, l_eq_zn, zn_eq_m, m_eq_zn, m_le_zn, zn_lt_m, imin_zn, imax_zn, zn_le_m, h1.nw, ↓bde (xs_means h1 hk (zn m)), g, q]
    · simp (disch := omega) only [x_cheapest_L43, ↓lt_u, ↓jn_u, ↓bd_s, bd_s, ↓rf_s, rf_s, ↓nl_s, ↓nl_n, nl_s, nl_n, ↓reduceIte, ↓ckb24, ↓ckb256, ckb_T, ckb01, ↓ck_zn, ↓ck_l, ck_zn, ck_l, vsi_i, vsi_l, vsi_r, vsi_k, vsi_n, vsi_w, vsl_i, vsl_l, vsl_r, vsl_k, vsl_n, vsl_w, vsr_i, vsr_l, vsr_r, vsr_k, vsr_n, vsr_w, and_self, and_true, true_and, and_false, false_and, or_self, or_true, true_or, or_false, false_or, not_true_eq_false, not_false_eq_true, ne_eq, eq_self, reduceCtorEq, Nat.reduceEqDiff, Nat.reduceAdd, Nat.reduceMul, Nat.reduceSub, Nat.reduceLT, Nat.reduceLeDiff, Nat.reduceDiv, Nat.add_zero, Nat.zero_add, Nat.not_lt_zero, Nat.zero_le, Nat.le_refl, Nat.lt_irrefl, l_eq_l, m_eq_l, l_eq_m, Int32.reduceLT, Int32.reduceLE, Int32.reduceAdd, Int32.reduceSub, Int32.reduceMul, b01_0, b01_1, b10_0, z_ne_o, o_ne_z, zn_add, zn_addl, zn_ladd, zn_mull, zn_subl, ix_zn, ix_l, ck_zn, ck_l, zn_le, zn_le_l, l_le_zn, zn_lt, zn_lt_l, l_lt_zn, zn_eq, zn_eq_l, l_eq_zn, zn_eq_m, m_eq_zn, m_le_zn, zn_lt_m, imin_zn, imax_zn, zn_le_m, h1.nw, ↓bde (xs_means h1 hk (zn m)), g, q]
  · show x_cheapest_L43 (zn m) (zn s) (zn b) _ (n + 1) (mny C (zn m)) (zn C.nw) M1 = _
    rw [x_cheapest_L43, if_pos (by rw [h1.nw]; exact Int32.le_refl _), lt_u, bde e2, bde e3, bde e4]
theorem yq_cheapestN {m s : Nat} (hm : m ≤ 9) (hs : s < C.ns) (hb : chw C (A 12) (zn m) (zn s) 0 = -1) : QY C A l l (-2) (m_cheapest (zn m) (zn s)) := by
  intro M h ha _ hl
  have h' := h.fy (f13 (M := M))
  have ha' := ha.fy (f13 (M := M))
  obtain ⟨M1, e1, f1⟩ := ms_cheapestOf h' (zn m) (zn s)
  rw [hy12 ha', hb] at e1
  refine ⟨M1, ?_, f13.tr f1.y, (ly13 hl).fa f1⟩
  unfold m_cheapest
  rw [lt_u, bde (mt_mean hm _), if_neg (by decide), bde (mt_stat h' hs), if_neg (by decide), bde e1, if_pos rfl]
theorem yq_cheapest {m s b : Nat} (hm : m ≤ 9) (hs : s < C.ns) (hbw : b < C.nw) (hb : chw C (A 12) (zn m) (zn s) 0 = zn b) : QY C A l [(tol C b (zn s) (A 12)).toInt64, (mny C (zn m)).toInt64] (zn b) (m_cheapest (zn m) (zn s)) := by
  intro M h ha _ hl
  have b1 := h.ok.nw10
  have h' := h.fy (f13 (M := M))
  have ha' := ha.fy (f13 (M := M))
  obtain ⟨M1, e1, f1⟩ := ms_cheapestOf h' (zn m) (zn s)
  rw [hy12 ha', hb] at e1
  have h1 := h'.fa f1
  obtain ⟨M2, e2, f2⟩ := ms_tollNow (h1.fy (f12 (M := M1))) hbw (zn s)
  rw [hy12 ((ha'.fa f1).fy f12)] at e2
  obtain ⟨M3, e3, f3, l3⟩ := ms_tell (LY.fa (ly0 M1) f2) (by show 0 < 20; omega) ((tol C b (zn s) (A 12)).toInt64)
  obtain ⟨M4, e4, f4, l4⟩ := ms_tell1 l3 ((mny C (zn m)).toInt64)
  refine ⟨M4, ?_, ((((f13.tr f1.y).tr f12).tr f2.y).tr f3.wy).tr f4.wy, l4⟩
  have hl := nlp (fun n k s2 => m_cheapest_L43 (zn m) (zn s) (zn b) (fun (v10 : Int32) (M7 : PM) => lt (M7.si 72 12 0) fun M8 => bd (m_tollNow (zn b) (zn s) M8) fun v11 M9 => bd (m_tell (Int32.toInt64 v11) M9) fun _ M10 => bd (m_tell (Int32.toInt64 v10) M10) fun _ M11 => some (zn b, M11)) n s2 (zn k) M1) C.nw FU (FU_lt (by omega)) (fun w s => s + (if mns C w (zn m) then 1 else 0)) 0 (some (zn b, M4)) (fun n k hk => ?_) (fun n => ?_)
  · unfold m_cheapest
    rw [lt_u, bde (mt_mean hm _), if_neg (by decide), bde (mt_stat h' hs), if_neg (by decide), bde e1, if_neg (by rw [zn_eq_m (by omega)]; exact id)]
    exact hl
  · have g : ¬ C.nw ≤ k := by omega
    by_cases q : mns C k (zn m)
    · simp (disch := omega) only [m_cheapest_L43, ↓lt_u, ↓jn_u, ↓bd_s, bd_s, ↓rf_s, rf_s, ↓nl_s, ↓nl_n, nl_s, nl_n, ↓reduceIte, ↓ckb24, ↓ckb256, ckb_T, ckb01, ↓ck_zn, ↓ck_l, ck_zn, ck_l, vsi_i, vsi_l, vsi_r, vsi_k, vsi_n, vsi_w, vsl_i, vsl_l, vsl_r, vsl_k, vsl_n, vsl_w, vsr_i, vsr_l, vsr_r, vsr_k, vsr_n, vsr_w, and_self, and_true, true_and, and_false, false_and, or_self, or_true, true_or, or_false, false_or, not_true_eq_false, not_false_eq_true, ne_eq, eq_self, reduceCtorEq, Nat.reduceEqDiff, Nat.reduceAdd, Nat.reduceMul, Nat.reduceSub, Nat.reduceLT, Nat.reduceLeDiff, Nat.reduceDiv, Nat.add_zero, Nat.zero_add, Nat.not_lt_zero, Nat.zero_le, Nat.le_refl, Nat.lt_irrefl, l_eq_l, m_eq_l, l_eq_m, Int32.reduceLT, Int32.reduceLE, Int32.reduceAdd, Int32.reduceSub, Int32.reduceMul, b01_0, b01_1, b10_0, z_ne_o, o_ne_z, zn_add, zn_addl, zn_ladd, zn_mull, zn_subl, ix_zn, ix_l, ck_zn, ck_l, zn_le, zn_le_l, l_le_zn, zn_lt, zn_lt_l, l_lt_zn, zn_eq, zn_eq_l, l_eq_zn, zn_eq_m, m_eq_zn, m_le_zn, zn_lt_m, imin_zn, imax_zn, zn_le_m, h1.nw, ↓bde (ms_means h1 hk (zn m)), g, q]
    · simp (disch := omega) only [m_cheapest_L43, ↓lt_u, ↓jn_u, ↓bd_s, bd_s, ↓rf_s, rf_s, ↓nl_s, ↓nl_n, nl_s, nl_n, ↓reduceIte, ↓ckb24, ↓ckb256, ckb_T, ckb01, ↓ck_zn, ↓ck_l, ck_zn, ck_l, vsi_i, vsi_l, vsi_r, vsi_k, vsi_n, vsi_w, vsl_i, vsl_l, vsl_r, vsl_k, vsl_n, vsl_w, vsr_i, vsr_l, vsr_r, vsr_k, vsr_n, vsr_w, and_self, and_true, true_and, and_false, false_and, or_self, or_true, true_or, or_false, false_or, not_true_eq_false, not_false_eq_true, ne_eq, eq_self, reduceCtorEq, Nat.reduceEqDiff, Nat.reduceAdd, Nat.reduceMul, Nat.reduceSub, Nat.reduceLT, Nat.reduceLeDiff, Nat.reduceDiv, Nat.add_zero, Nat.zero_add, Nat.not_lt_zero, Nat.zero_le, Nat.le_refl, Nat.lt_irrefl, l_eq_l, m_eq_l, l_eq_m, Int32.reduceLT, Int32.reduceLE, Int32.reduceAdd, Int32.reduceSub, Int32.reduceMul, b01_0, b01_1, b10_0, z_ne_o, o_ne_z, zn_add, zn_addl, zn_ladd, zn_mull, zn_subl, ix_zn, ix_l, ck_zn, ck_l, zn_le, zn_le_l, l_le_zn, zn_lt, zn_lt_l, l_lt_zn, zn_eq, zn_eq_l, l_eq_zn, zn_eq_m, m_eq_zn, m_le_zn, zn_lt_m, imin_zn, imax_zn, zn_le_m, h1.nw, ↓bde (ms_means h1 hk (zn m)), g, q]
  · show m_cheapest_L43 (zn m) (zn s) (zn b) _ (n + 1) (mny C (zn m)) (zn C.nw) M1 = _
    rw [m_cheapest_L43, if_pos (by rw [h1.nw]; exact Int32.le_refl _), lt_u, bde e2, bde e3, bde e4]
theorem call_cheapest (p q : Int32) : Call (x_cheapest p q) (m_cheapest p q) := by
  refine Call.of (fun C A l hC hA hl => ?_)
  have b2 := hC.ns6
  rcases dl_or (n := 9) (by omega) p with ⟨m, hm, rfl⟩ | hn
  · rcases dm_or (show C.ns < 2147483648 by omega) q with ⟨s, hs, rfl⟩ | hn2
    · rcases chw_or hC (A 12) (zn m) (zn s) with ⟨g, -⟩ | ⟨b, g1, g2, -⟩
      · exact ⟨_, _, hl, xq_cheapestN hm hs g, yq_cheapestN hm hs g⟩
      · exact ⟨_, _, two15 _ _, xq_cheapest hm hs g1 g2, yq_cheapest hm hs g1 g2⟩
    · refine ⟨-1, l, hl, fun M h ha _ hx => ⟨M, ?_, Fq.rf, hx⟩, fun M h ha _ hx => ⟨M.si 72 13 0, ?_, f13, ly13 hx⟩⟩
      · unfold x_cheapest
        rw [bde (xt_9 hm M), if_neg (by decide), bde (xn_stat h hn2), if_pos rfl]
      · unfold m_cheapest
        rw [lt_u, bde (mt_mean hm _), if_neg (by decide), bde (mn_stat (h.fy f13) hn2), if_pos rfl]
  · refine ⟨-1, l, hl, fun M h ha _ hx => ⟨M, ?_, Fq.rf, hx⟩, fun M h ha _ hx => ⟨M.si 72 13 0, ?_, f13, ly13 hx⟩⟩
    · unfold x_cheapest
      rw [bde (xn_9 hn M), if_pos rfl]
    · unfold m_cheapest
      rw [lt_u, bde (mn_mean hn _), if_pos rfl]
end
