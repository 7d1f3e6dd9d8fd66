set_option maxRecDepth 100000
/-! SIGN, END -/
theorem sgn_b (v : Int32) : ∃ c, c < 256 ∧ v &&& 255 = zn c ∧ (Int32.toInt8 ((Int32.toInt8 v).toInt32)).toInt32 = b8 c := by
  have e : v &&& 255 = zn (v.toBitVec &&& 255#32).toNat := by
    apply Int32.toBitVec_inj.mp
    show v.toBitVec &&& 255#32 = BitVec.ofNat 32 (v.toBitVec &&& 255#32).toNat
    simp
  refine ⟨(v.toBitVec &&& 255#32).toNat, ?_, e, ?_⟩
  · rw [BitVec.toNat_and]
    exact Nat.lt_of_le_of_lt Nat.and_le_right (by decide)
  · have e2 : (v &&& 255).toInt8 = v.toInt8 := by
      apply Int8.toBitVec_inj.mp
      show (v.toBitVec &&& 255#32).signExtend 8 = v.toBitVec.signExtend 8
      rw [BitVec.signExtend_eq_setWidth_of_le _ (by decide), BitVec.signExtend_eq_setWidth_of_le _ (by decide), BitVec.setWidth_and]
      have : BitVec.setWidth 8 255#32 = BitVec.allOnes 8 := by decide
      rw [this, BitVec.and_allOnes]
    unfold b8
    rw [← e, e2, Int8.toInt8_toInt32]
def sgC (c : Int32) (k : Nat) : Nat := ix ((c >>> ((24 - 8 * zn k) &&& 31)) &&& 255)
theorem sgC_lt (c : Int32) (k : Nat) : sgC c k < 256 := by
  unfold sgC
  obtain ⟨d, h1, h2, h3⟩ := sgn_b (c >>> ((24 - 8 * zn k) &&& 31))
  rw [h2, ix_zn (by omega)]; exact h1
theorem sgC_x (c : Int32) (k : Nat) : (c >>> ((24 - 8 * zn k) &&& 31)) &&& 255 = zn (sgC c k) := by
  unfold sgC
  obtain ⟨d, h1, h2, h3⟩ := sgn_b (c >>> ((24 - 8 * zn k) &&& 31))
  rw [h2, ix_zn (by omega)]
theorem sgC_y (c : Int32) (k : Nat) : (Int32.toInt8 ((Int32.toInt8 (c >>> ((24 - 8 * zn k) &&& 31))).toInt32)).toInt32 = b8 (sgC c k) := by
  unfold sgC
  obtain ⟨d, h1, h2, h3⟩ := sgn_b (c >>> ((24 - 8 * zn k) &&& 31))
  rw [h2, ix_zn (by omega), h3]
def sgB (c : Int32) (n : Nat) (b : Nat → Nat) (k : Nat) : Nat → Nat := fun j => if n ≤ j ∧ j < n + k then sgC c (j - n) else b j
theorem sgB_lt {c : Int32} {n : Nat} {b : Nat → Nat} (hb : ∀ k, b k < 256) (m k : Nat) : sgB c n b m k < 256 := by
  unfold sgB
  split
  · exact sgC_lt _ _
  · exact hb k
theorem sgB_s (c : Int32) (n : Nat) (b : Nat → Nat) (k j : Nat) : sgB c n b (k + 1) j = if j = n + k then sgC c k else sgB c n b k j := by
  unfold sgB
  by_cases e : j = n + k
  · rw [if_pos e, if_pos (by omega), e, Nat.add_sub_cancel_left]
  · rw [if_neg e]
    by_cases g : n ≤ j ∧ j < n + k
    · rw [if_pos g, if_pos (by omega)]
    · rw [if_neg g, if_neg (by omega)]
theorem sg_0 (c : Int32) (n : Nat) (b : Nat → Nat) (j : Nat) : sgB c n b 0 j = b j := by
  unfold sgB
  rw [if_neg (by omega)]
theorem sg_m1 : ∀ k, k < 4 → (3 : Int32) - zn k + (-1) = 3 - zn (k + 1) := by decide +kernel
theorem sg_m2 : ∀ k, k < 4 → ¬ (3 : Int32) - zn k < 0 := by decide +kernel
theorem sg_m3 : ∀ k, k < 4 → ((8 : Int32) * (3 - zn k)) &&& 31 = (24 - 8 * zn k) &&& 31 := by decide +kernel
section
variable {C : SV} {A : Nat → Int32} {M : PM} {nT nU ch : Nat} {bT : Nat → Nat} {U : Nat → Nat → Int32} {K : Nat → Bool × (Nat → Int32) × Nat} {l : List Int64}
theorem xs_sign (h : XS C A nT bT nU U ch K l M) (hn : nT ≤ 76) (c : Int32) : ∃ M1, x_sign c M = some (zn (nT + 4), M1) ∧ Ge gxc M M1 ∧ XS C A (nT + 4) (sgB c nT bT 4) nU U ch K l M1 ∧ M1.n ≤ M.n + 500 ∧ M1.w ≤ M.w + 5000 := by
  obtain ⟨⟨t1, t2⟩, t3, t4⟩ := h.t
  have := wlp (fun n k (_ : Unit) M2 => x_sign_L13 c (fun (M3 : PM) => lt (M3.si 20 16 ((M3.i 20 16) + 4)) fun M4 => some ((M4.i 20 16), M4)) n (zn k) M2) 4 FU (FU_lt (by omega)) (fun _ s => s) () (fun k M2 => Fq (fun o _ => o = 39) M M2 ∧ ∀ j, j < 80 → M2.i 39 j = zn (sgB c nT bT k j)) (fun o => ∃ M1, o = some (zn (nT + 4), M1) ∧ Fq xqt M M1 ∧ LX l M1 ∧ TX (nT + 4) (sgB c nT bT 4) M1) (fun n k M2 hk hI => ?_) (fun n M2 hI => ?_) M ⟨Fq.rf, fun j hj => by rw [sg_0]; exact t4 j hj⟩
  · obtain ⟨M1, e1, f1, l1, q1⟩ := this
    refine ⟨M1, ?_, f1.gx, h.q f1 q1 l1, f1.n5, f1.w5⟩
    unfold x_sign
    rw [t3, if_pos (by rw [zn_le_l (by omega) (by omega)]; exact hn)]
    exact e1
  · obtain ⟨f, i1⟩ := hI
    have e16 : M2.i 20 16 = zn nT := (f.i 20 16 (by omega)).trans t3
    refine ⟨M2.si 39 (nT + k) (zn (sgC c k)), ⟨Fq.si (c := fun o _ => o = 39) f rfl, fun j hj => ?_⟩, ?_⟩
    · rw [si_i, sgB_s]
      by_cases e : j = nT + k
      · rw [if_pos ⟨rfl, e⟩, if_pos e]
      · rw [if_neg (by omega), if_neg e]; exact i1 j hj
    · show x_sign_L13 c _ (n + 1) (zn k) M2 = x_sign_L13 c _ n (zn (k + 1)) _
      rw [x_sign_L13, if_neg (by rw [l_le_zn (by omega) (by omega)]; omega), e16, zn_add, ck_zn (by omega) (by omega), ix_zn (by omega), sgC_x, lt_u, lt_u, zn_addl]
  · obtain ⟨f, i1⟩ := hI
    have e16 : M2.i 20 16 = zn nT := (f.i 20 16 (by omega)).trans t3
    refine ⟨M2.si 20 16 (zn (nT + 4)), ?_, Fq.si (c := xqt) (f.mo (d := xqt) (fun o j q => Or.inr (Or.inr (Or.inr q)))) (Or.inr (Or.inl ⟨rfl, Or.inr rfl⟩)), (h.lx.fr f (by omega) (fun j => by omega)).fr (c := fun o j => o = 20 ∧ j = 16) (Fq.si (c := fun o j => o = 20 ∧ j = 16) Fq.rf ⟨rfl, rfl⟩) (by omega) (fun j => by omega), ⟨by omega, sgB_lt t2 4⟩, ?_, fun k hk => ?_⟩
    · show x_sign_L13 c _ (n + 1) (zn 4) M2 = _
      rw [x_sign_L13, if_pos (by decide), lt_u, e16, zn_addl, si_i, if_pos ⟨rfl, rfl⟩]
    · rw [si_i, if_pos ⟨rfl, rfl⟩]
    · rw [si_i, if_neg (by omega)]; exact i1 k hk
theorem ys_sign (h : YS C A nT bT nU U ch K l M) (hn : nT ≤ 76) (c : Int32) : ∃ M1, m_sign c M = some (zn (nT + 4), M1) ∧ Fq gyc M M1 ∧ YS C A (nT + 4) (sgB c nT bT 4) nU U ch K l M1 := by
  obtain ⟨⟨t1, t2⟩, t3, t4⟩ := h.t
  have := wlp (fun n k (_ : Unit) M2 => m_sign_L20 c (fun (M5 : PM) => some ((M5.i 72 10), M5)) n (3 - zn k) M2) 4 FU (FU_lt (by omega)) (fun _ s => s) () (fun k M2 => Fq (fun o j => o = 78 ∨ (o = 72 ∧ (j = 10 ∨ j = 13))) M M2 ∧ M2.i 72 10 = zn (nT + k) ∧ ∀ j, j < 80 → M2.i 78 j = b8 (sgB c nT bT k j)) (fun o => ∃ M1, o = some (zn (nT + 4), M1) ∧ Fq yqt M M1 ∧ LY l M1 ∧ TY (nT + 4) (sgB c nT bT 4) M1) (fun n k M2 hk hI => ?_) (fun n M2 hI => ?_) (M.si 72 13 0) ⟨Fq.si (c := fun o j => o = 78 ∨ (o = 72 ∧ (j = 10 ∨ j = 13))) Fq.rf (Or.inr ⟨rfl, Or.inr rfl⟩), by rw [si_i, if_neg (by omega)]; exact t3, fun j hj => by rw [sg_0, si_i, if_neg (by omega)]; exact t4 j hj⟩
  · obtain ⟨M1, e1, f1, l1, q1⟩ := this
    refine ⟨M1, ?_, f1.gy, h.q f1 q1 l1⟩
    unfold m_sign
    rw [lt_u, show (M.si 72 13 0).i 72 10 = zn nT from by rw [si_i, if_neg (by omega)]; exact t3, zn_addl, if_pos (by rw [zn_le_l (by omega) (by omega)]; omega)]
    exact e1
  · obtain ⟨f, i0, i1⟩ := hI
    refine ⟨(M2.si 72 10 (zn (nT + k + 1))).si 78 (nT + k) (b8 (sgC c k)), ⟨Fq.si (c := fun o j => o = 78 ∨ (o = 72 ∧ (j = 10 ∨ j = 13))) (Fq.si (c := fun o j => o = 78 ∨ (o = 72 ∧ (j = 10 ∨ j = 13))) f (Or.inr ⟨rfl, Or.inl rfl⟩)) (Or.inl rfl), ?_, fun j hj => ?_⟩, ?_⟩
    · rw [si_i, if_neg (by omega), si_i, if_pos ⟨rfl, rfl⟩]; rfl
    · rw [si_i, sgB_s]
      by_cases e : j = nT + k
      · rw [if_pos ⟨rfl, e⟩, if_pos e]
      · rw [if_neg (by omega), if_neg e, si_i, if_neg (by omega)]; exact i1 j hj
    · show m_sign_L20 c _ (n + 1) (3 - zn k) M2 = m_sign_L20 c _ n (3 - zn (k + 1)) _
      rw [m_sign_L20, if_neg (sg_m2 k hk), lt_u, i0, zn_addl, lt_u, ck_zn (by omega) (by omega), ix_zn (by omega), sg_m3 k hk, sgC_y, lt_u, lt_u, sg_m1 k hk]
  · obtain ⟨f, i0, i1⟩ := hI
    refine ⟨M2, ?_, f.mo (d := yqt) (fun o j q => q.elim (fun w => Or.inr (Or.inr (Or.inr w))) (fun w => Or.inr (Or.inl ⟨w.1, w.2.elim (fun z => Or.inr (Or.inr z)) (fun z => Or.inr (Or.inl z))⟩))), h.ly.fr f (by omega) (fun j => by omega), ⟨by omega, sgB_lt t2 4⟩, i0, i1⟩
    show m_sign_L20 c _ (n + 1) (3 - zn 4) M2 = _
    rw [m_sign_L20, if_pos (by decide), i0]
theorem call_sign (p : Int32) : Call (x_sign p) (m_sign p) := by
  refine Call.xy (fun C A nT bT nU U ch K l hC hA h15 ht => ?_)
  by_cases hn : nT ≤ 76
  · exact ⟨zn (nT + 4), C, A, nT + 4, sgB p nT bT 4, nU, U, K, l, h15, fun M h => xs_sign h hn p, fun M h => ys_sign h hn p⟩
  · refine ⟨-1, C, A, nT, bT, nU, U, K, l, h15, fun M h => ⟨M, ?_, (Fq.rf (c := xqt)).gx, h, by omega, by omega⟩, fun M h => ⟨M.si 72 13 0, ?_, (f13.yt).gy, h.q f13.yt (h.t.fr f13 (by unfold yq ts; omega) (fun j => by unfold yq ts; omega)) (ly13 h.ly)⟩⟩
    · have t3 := h.t.2.1
      have t1 := h.t.1.1
      unfold x_sign
      rw [t3, if_neg (by rw [zn_le_l (by omega) (by omega)]; omega)]
    · have t3 := h.t.2.1
      have t1 := h.t.1.1
      unfold m_sign
      rw [lt_u, show (M.si 72 13 0).i 72 10 = zn nT from by rw [si_i, if_neg (by omega)]; exact t3, zn_addl, if_neg (by rw [zn_le_l (by omega) (by omega)]; omega)]
theorem call_end (p : Int32) : Call (x_end p) (m_end p) := by
  refine Call.xy (fun C A nT bT nU U ch K l hC hA h15 ht => ?_)
  obtain ⟨ht1, ht2⟩ := ht
  rcases dl_or (show nT < 2147483648 by omega) p with ⟨x, hx, rfl⟩ | hn
  · refine ⟨1, C, A, x, bT, nU, U, K, l, h15, fun M h => ⟨M.si 20 16 (zn x), ?_, ?_, h.q (Fq.si (c := xqt) Fq.rf (Or.inr (Or.inl ⟨rfl, Or.inr rfl⟩))) ⟨⟨by omega, ht2⟩, by rw [si_i, if_pos ⟨rfl, rfl⟩], fun k hk => by rw [si_i, if_neg (by omega)]; exact h.t.2.2 k hk⟩ (h.lx.fr (c := fun o j => o = 20 ∧ j = 16) (Fq.si (c := fun o j => o = 20 ∧ j = 16) Fq.rf ⟨rfl, rfl⟩) (by omega) (fun j => by omega)), by show M.n ≤ M.n + 500; omega, by show M.w ≤ M.w + 5000; omega⟩, fun M h => ⟨(M.si 72 13 0).si 72 10 (zn x), ?_, ?_, h.q (Fq.si (c := yqt) f13.yt (Or.inr (Or.inl ⟨rfl, Or.inr (Or.inr rfl)⟩))) ⟨⟨by omega, ht2⟩, by rw [si_i, if_pos ⟨rfl, rfl⟩], fun k hk => by rw [si_i, if_neg (by omega), si_i, if_neg (by omega)]; exact h.t.2.2 k hk⟩ ((ly13 h.ly).fr (c := fun o j => o = 72 ∧ j = 10) (Fq.si (c := fun o j => o = 72 ∧ j = 10) Fq.rf ⟨rfl, rfl⟩) (by omega) (fun j => by omega))⟩⟩
    · unfold x_end
      rw [h.t.2.1, bde (xt_in hx (by omega) M), if_neg (by decide), lt_u]
    · exact (Fq.si (c := xqt) Fq.rf (Or.inr (Or.inl ⟨rfl, Or.inr rfl⟩))).gx
    · unfold m_end
      rw [lt_u, show (M.si 72 13 0).i 72 10 = zn nT from by rw [si_i, if_neg (by omega)]; exact h.t.2.1, bde (mt_in hx (by omega) _), if_neg (by decide), lt_u]
    · exact (Fq.si (c := yqt) f13.yt (Or.inr (Or.inl ⟨rfl, Or.inr (Or.inr rfl)⟩))).gy
  · refine ⟨0, C, A, nT, bT, nU, U, K, l, h15, fun M h => ⟨M, ?_, (Fq.rf (c := xqt)).gx, h, by omega, by omega⟩, fun M h => ⟨M.si 72 13 0, ?_, (f13.yt).gy, h.q f13.yt (h.t.fr f13 (by unfold yq ts; omega) (fun j => by unfold yq ts; omega)) (ly13 h.ly)⟩⟩
    · unfold x_end
      rw [h.t.2.1, bde (xn_in hn M), if_pos rfl]
    · unfold m_end
      rw [lt_u, show (M.si 72 13 0).i 72 10 = zn nT from by rw [si_i, if_neg (by omega)]; exact h.t.2.1, bde (mn_in hn _), if_pos rfl]
end
