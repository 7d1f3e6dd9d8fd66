set_option maxRecDepth 100000
/-! WALKS AND SAYINGS, the reference -/
abbrev syc (a o j : Nat) : Prop := ca o j ∨ o = a ∨ (o = 72 ∧ j = 31)
section
variable {C : SV} {M : PM} {a ra : Nat} {A : Nat → Int32}
theorem CY.row {M' : PM} (h : CY ra C M) (ha : a = 73 ∨ a = 100) (f : Fq (fun o _ => o = a) M M') : CY ra C M' := by
  have := h.ru.1
  refine h.fr f ?_ (fun o j q => by omega)
  rcases ha with ha | ha <;> subst ha <;> decide +kernel
theorem CY.sy {M' : PM} (h : CY ra C M) (ha : a = 73 ∨ a = 100) (f : Fq (syc a) M M') : CY ra C M' := by
  have := h.ru.1
  refine h.fr f ?_ (fun o j q => by unfold syc ca; omega)
  rcases ha with ha | ha <;> subst ha <;> decide +kernel
theorem kdA (h : Sh M) (ha : a = 73 ∨ a = 100) : M.k a = (20, 44) := by
  rcases ha with ha | ha
  · subst ha; exact kd73 h
  · subst ha; exact kd100 h
theorem way_eq {s y : Nat} (hy : y ≤ 1) : zn s + 2 * zn y - 1 = zn s + (if y = 1 then 1 else -1) := by
  rcases (show y = 0 ∨ y = 1 by omega) with e | e
  · subst e
    show zn s + 2 * 0 - 1 = zn s + -1
    rw [Int32.mul_zero, Int32.add_zero, Int32.sub_eq_add_neg]
  · subst e
    show zn s + 2 - 1 = zn s + 1
    rw [Int32.sub_eq_add_neg, Int32.add_assoc]
    rfl
theorem ms_refusesWalk (h : CY ra C M) (ha : a = 73 ∨ a = 100) (hv : RvY a A M) {t y s : Nat} (ht : t < C.nt) (hy : y ≤ 1) (hA : A t = zn s) : m_refusesWalk a (zn t) (zn y) M = some (if 0 ≤ zn s + (if y = 1 then 1 else -1) ∧ zn s + (if y = 1 then 1 else -1) ≤ zn C.ns - 1 then 0 else -2, M) := by
  have b1 := h.ok.nt4
  have w1 := hv t (by omega)
  rw [hA] at w1
  have hy1 : (0 ≤ zn y ∧ zn y ≤ 1) = True := by
    apply eq_true
    rw [l_le_zn (by omega) (by omega), zn_le_l (by omega) (by omega)]
    omega
  have hdt : (0 ≤ zn t ∧ zn t ≤ zn C.nt - 1) = True := dm_t ht (by omega)
  have hk := kdA h.sh ha
  unfold m_refusesWalk
  by_cases q : 0 ≤ zn s + (if y = 1 then 1 else -1) ∧ zn s + (if y = 1 then 1 else -1) ≤ zn C.ns - 1
  · simp (disch := omega) only [ms_isOne h, ms_isStation h, hdt, m_in32, hy1, o_ne_z, bd_s, cka, hk, ck_zn, ix_zn, w1, way_eq hy, q, and_self, ↓reduceIte]
  · simp (disch := omega) only [ms_isOne h, ms_isStation h, hdt, m_in32, hy1, o_ne_z, bd_s, cka, hk, ck_zn, ix_zn, w1, way_eq hy, q, ↓reduceIte]
theorem ms_refusesWalkN (h : CY ra C M) (p q : Int32) (hn : ¬ (0 ≤ p ∧ p ≤ zn C.nt - 1) ∨ ¬ (0 ≤ q ∧ q ≤ 1)) : m_refusesWalk a p q M = some (-1, M) := by
  unfold m_refusesWalk
  rw [ms_isOne h]
  by_cases g : 0 ≤ p ∧ p ≤ zn C.nt - 1
  · rcases hn with hn | hn
    · exact absurd g hn
    · simp only [bd_s, g, and_self, o_ne_z, m_in32, hn, ↓reduceIte]
  · simp only [bd_s, g, ↓reduceIte]
theorem ms_goWalk (h : CY ra C M) (ha : a = 73 ∨ a = 100) (hv : RvY a A M) {t y s : Nat} (ht : t < C.nt) (hy : y ≤ 1) (hA : A t = zn s) : ∃ M', m_goWalk a (zn t) (zn y) M = some (zn s + (if y = 1 then 1 else -1), M') ∧ Fq (fun o _ => o = a) M M' ∧ RvY a (wlkA A t (zn s + (if y = 1 then 1 else -1))) M' := by
  have b1 := h.ok.nt4
  have w1 := hv t (by omega)
  have w2 := hv 12 (by omega)
  rw [hA] at w1
  have hk := kdA h.sh ha
  have hw : zn s + (2 * zn y - 1) = zn s + (if y = 1 then 1 else -1) := by
    rw [← way_eq hy, Int32.sub_eq_add_neg, Int32.sub_eq_add_neg, Int32.add_assoc]
  obtain ⟨g, hg⟩ : ∃ g : Int32, g = zn s + (if y = 1 then 1 else -1) := ⟨_, rfl⟩
  rw [← hg] at hw ⊢
  refine ⟨(M.si a t g).si a 12 (M.i a 12 + 1), ?_, Fq.si (c := fun o _ => o = a) (Fq.si (c := fun o _ => o = a) Fq.rf rfl) rfl, fun j hj => ?_⟩
  · unfold m_goWalk
    simp (disch := omega) only [lt_u, cka, hk, vsi_i, vsi_l, vsi_r, vsi_k, vsi_n, vsi_w, vsl_i, vsl_l, vsl_r, vsl_k, vsl_n, vsl_w, vsr_i, vsr_l, vsr_r, vsr_k, vsr_n, vsr_w, ck_zn, ix_zn, w1, hw, ck_l, ix_l, show ¬ (12 = t) by omega, show ¬ (t = 12) by omega, and_self, and_true, true_and, and_false, false_and, or_self, or_true, true_or, or_false, false_or, not_true_eq_false, not_false_eq_true, ne_eq, eq_self, reduceCtorEq, ↓reduceIte]
  · unfold wlkA
    have wj := hv j hj
    rw [si_i, si_i]
    by_cases e1 : j = 12
    · subst e1
      rw [if_pos ⟨rfl, rfl⟩, if_neg (by omega), if_pos rfl, w2]
    · rw [if_neg (by omega)]
      by_cases e2 : j = t
      · rw [if_pos ⟨rfl, e2⟩, if_pos e2]
      · rw [if_neg (by omega), if_neg e2, if_neg e1]; exact wj
theorem ms_refusesSayN (h : CY ra C M) (p q : Int32) (hn : ¬ (0 ≤ p ∧ p ≤ zn C.nt - 1) ∨ ¬ (0 ≤ q ∧ q ≤ zn C.nw - 1)) : m_refusesSay a p q M = some (-1, M) := by
  unfold m_refusesSay
  rw [ms_isOne h]
  by_cases g : 0 ≤ p ∧ p ≤ zn C.nt - 1
  · rcases hn with hn | hn
    · exact absurd g hn
    · simp only [bd_s, g, and_self, o_ne_z, ms_isWord h, hn, ↓reduceIte]
  · simp only [bd_s, g, ↓reduceIte]
theorem ms_refusesSay (h : CY ra C M) (ha : a = 73 ∨ a = 100) (hv : RvY a A M) {t w : Nat} (ht : t < C.nt) (hw : w < C.nw) : ∃ M', m_refusesSay a (zn t) (zn w) M = some (if tol C w (A t) (A 12) ≤ A (4 + t) then 0 else -2, M') ∧ Fq ca M M' := by
  have b1 := h.ok.nt4
  have b2 := h.ok.nw10
  have w1 := hv t (by omega)
  have w2 := hv 12 (by omega)
  have w3 := hv (4 + t) (by omega)
  have hk := kdA h.sh ha
  have hdt : (0 ≤ zn t ∧ zn t ≤ zn C.nt - 1) = True := dm_t ht (by omega)
  have hdw : (0 ≤ zn w ∧ zn w ≤ zn C.nw - 1) = True := dm_t hw (by omega)
  obtain ⟨M3, e3, f3, -⟩ := ms_tollOf h hw (A t) (A 12)
  refine ⟨M3, ?_, f3⟩
  unfold m_refusesSay
  by_cases g : tol C w (A t) (A 12) ≤ A (4 + t)
  · simp (disch := omega) only [ms_isOne h, ms_isWord h, hdt, hdw, o_ne_z, bd_s, cka, hk, zn_ladd, ck_zn, ck_l, ix_zn, ix_l, w1, w2, w3, e3, g, ↓reduceIte]
  · simp (disch := omega) only [ms_isOne h, ms_isWord h, hdt, hdw, o_ne_z, bd_s, cka, hk, zn_ladd, ck_zn, ck_l, ix_zn, ix_l, w1, w2, w3, e3, g, ↓reduceIte]
/-- a row while a word's vowels are written into the book: v of them are -/
def gsA (C : SV) (A : Nat → Int32) (t w s n : Nat) : Nat → Int32 := fun j => if j = 4 + t then A (4 + t) - tol C w (A t) (A 12) else if j = 8 + t then A (8 + t) + tol C w (A t) (A 12) else if 14 + 5 * s ≤ j ∧ j < 14 + 5 * s + n then A j + oft C w (zn (j - (14 + 5 * s))) else A j
/-- the bits of what is done, e errands looked at -/
def dop (C : SV) (d p st : Int32) (w n : Nat) : Int32 := itr (fun e s => s ||| (if zn (C.who e) = p then (if zn (C.wh e) = st then (if ((d >>> (zn e &&& 31)) &&& 1) = 1 then 0 else (if mns C w (zn (C.em e)) then (1 : Int32) <<< (zn e &&& 31) else 0)) else 0) else 0)) n 0
theorem ms_goSay (h : CY ra C M) (ha : a = 73 ∨ a = 100) (hv : RvY a A M) {t w s : Nat} (ht : t < C.nt) (hw : w < C.nw) (hA : A t = zn s) (hs6 : s < C.ns) : ∃ M', m_goSay a (zn t) (zn w) M = some (tol C w (A t) (A 12), M') ∧ Fq (syc a) M M' ∧ RvY a (sayA C A t w s) M' ∧ M'.i 72 31 = dob C (A 13) (zn t) (A t) w := by
  have b1 := h.ok.nt4
  have b2 := h.ok.nw10
  have b3 := h.ok.ns6
  have b4 := h.ok.ne8
  have w1 := hv t (by omega)
  have w2 := hv 12 (by omega)
  have hk := kdA h.sh ha
  obtain ⟨c, hc⟩ : ∃ c : Int32, c = tol C w (A t) (A 12) := ⟨_, rfl⟩
  obtain ⟨M1, e1, f1, -⟩ := ms_tollOf h hw (A t) (A 12)
  rw [← hc] at e1 ⊢
  have hv1 : RvY a A M1 := hv.fr f1 (fun j => by unfold ca; omega)
  have hk1 : M1.k a = (20, 44) := by rw [f1.k]; exact hk
  have p1 := hv1 (4 + t) (by omega)
  have p2 := hv1 (8 + t) (by omega)
  obtain ⟨N, hN⟩ : ∃ N, N = (M1.si a (4 + t) (A (4 + t) - c)).si a (8 + t) (A (8 + t) + c) := ⟨_, rfl⟩
  have fN : Fq (syc a) M N := by
    rw [hN]
    exact ((f1.mo (d := syc a) (fun o j q => Or.inl q)).si (Or.inr (Or.inl rfl))).si (Or.inr (Or.inl rfl))
  have hvN : RvY a (gsA C A t w s 0) N := by
    intro j hj
    have hj1 := hv1 j hj
    unfold gsA
    rw [hN, si_i, si_i, ← hc]
    by_cases g1 : j = 4 + t
    · rw [if_neg (by omega), if_pos ⟨rfl, g1⟩, if_pos g1]
    · by_cases g2 : j = 8 + t
      · rw [if_pos ⟨rfl, g2⟩, if_neg g1, if_pos g2]
      · rw [if_neg (by omega), if_neg (by omega), if_neg g1, if_neg g2, if_neg (by omega)]; exact hj1
  unfold m_goSay
  simp (disch := omega) only [lt_u, bd_s, cka, hk, hk1, zn_ladd, ck_zn, ck_l, ix_zn, ix_l, w1, w2, e1, p1, p2, vsi_i, vsi_l, vsi_r, vsi_k, vsi_n, vsi_w, vsl_i, vsl_l, vsl_r, vsl_k, vsl_n, vsl_w, vsr_i, vsr_l, vsr_r, vsr_k, vsr_n, vsr_w, ↓reduceIte, show ¬ (8 + t = 4 + t) by omega, and_false]
  rw [← hN]
  refine wlp (fun n k (_ : Unit) M2 => m_goSay_L38 a (zn t) (zn w) c _ n (zn k) M2) 5 FU (FU_lt (by omega)) (fun _ s => s) () (fun k M2 => Fq (syc a) M M2 ∧ RvY a (gsA C A t w s k) M2) (fun o => ∃ M', o = some (c, M') ∧ Fq (syc a) M M' ∧ RvY a (sayA C A t w s) M' ∧ M'.i 72 31 = dob C (A 13) (zn t) (A t) w) (fun n k M2 hk5 hI => ?_) (fun n M2 hI => ?_) N ⟨fN, hvN⟩
  · obtain ⟨f2, hv2⟩ := hI
    have h2 := h.sy ha f2
    have hk2 : M2.k a = (20, 44) := by rw [f2.k]; exact hk
    have u1 := hv2 t (by omega)
    have u2 := hv2 (14 + 5 * s + k) (by omega)
    unfold gsA at u1 u2
    rw [if_neg (by omega), if_neg (by omega), if_neg (by omega), hA] at u1
    rw [if_neg (by omega), if_neg (by omega), if_neg (by omega)] at u2
    have g : ¬ 5 ≤ k := by omega
    refine ⟨M2.si a (14 + 5 * s + k) (A (14 + 5 * s + k) + oft C w (zn k)), ⟨f2.si (Or.inr (Or.inl rfl)), fun j hj => ?_⟩, ?_⟩
    · have hj2 := hv2 j hj
      unfold gsA at hj2 ⊢
      rw [si_i]
      by_cases e : j = 14 + 5 * s + k
      · rw [if_pos ⟨rfl, e⟩, if_neg (by omega), if_neg (by omega), if_pos (by omega), e, show 14 + 5 * s + k - (14 + 5 * s) = k by omega]
      · rw [if_neg (by omega), hj2]
        by_cases g3 : 14 + 5 * s ≤ j ∧ j < 14 + 5 * s + k
        · rw [if_pos g3, if_pos (show 14 + 5 * s ≤ j ∧ j < 14 + 5 * s + (k + 1) by omega)]
        · rw [if_neg g3, if_neg (show ¬ (14 + 5 * s ≤ j ∧ j < 14 + 5 * s + (k + 1)) by omega)]
    · simp (disch := omega) only [m_goSay_L38, lt_u, bd_s, cka, hk2, Nat.reduceEqDiff, Nat.reduceAdd, Nat.reduceMul, Nat.reduceSub, Nat.reduceLT, Nat.reduceLeDiff, Nat.reduceDiv, Nat.add_zero, Nat.zero_add, Nat.not_lt_zero, Nat.zero_le, Nat.le_refl, Nat.lt_irrefl, zn_add, zn_addl, zn_ladd, zn_mull, zn_subl, ix_zn, ix_l, ck_zn, ck_l, zn_le, zn_le_l, l_le_zn, zn_lt, zn_lt_l, l_lt_zn, zn_eq, zn_eq_l, l_eq_zn, zn_eq_m, m_eq_zn, m_le_zn, zn_lt_m, imin_zn, imax_zn, zn_le_m, u1, u2, ms_often h2 hw, g, ↓reduceIte]
  · obtain ⟨f2, hv2⟩ := hI
    simp (disch := omega) only [m_goSay_L38, l_le_zn, lt_u, Nat.le_refl, ↓reduceIte]
    refine wlp (fun n k (_ : Unit) M3 => m_goSay_L81 a (zn t) (zn w) c _ n (zn k) M3) C.ne FU (FU_lt (by omega)) (fun _ s => s) () (fun k M3 => Fq (syc a) M M3 ∧ RvY a (gsA C A t w s 5) M3 ∧ M3.i 72 31 = dop C (A 13) (zn t) (A t) w k) (fun o => ∃ M', o = some (c, M') ∧ Fq (syc a) M M' ∧ RvY a (sayA C A t w s) M' ∧ M'.i 72 31 = dob C (A 13) (zn t) (A t) w) (fun n k M3 hke hI => ?_) (fun n M3 hI => ?_) (M2.si 72 31 0) ⟨f2.si (Or.inr (Or.inr ⟨rfl, rfl⟩)), fun j hj => ?_, ?_⟩
    · obtain ⟨f3, hv3, i3⟩ := hI
      have h3 := h.sy ha f3
      have hk3 : M3.k a = (20, 44) := by rw [f3.k]; exact hk
      have u1 := hv3 t (by omega)
      have u2 := hv3 13 (by omega)
      unfold gsA at u1 u2
      rw [if_neg (by omega), if_neg (by omega), if_neg (by omega)] at u1
      rw [if_neg (by omega), if_neg (by omega), if_neg (by omega)] at u2
      have g : ¬ C.ne ≤ k := by omega
      refine ⟨M3.si 72 31 (dop C (A 13) (zn t) (A t) w (k + 1)), ⟨f3.si (Or.inr (Or.inr ⟨rfl, rfl⟩)), fun j hj => ?_, ?_⟩, ?_⟩
      · rw [si_i, if_neg (by omega)]; exact hv3 j hj
      · rw [si_i, if_pos ⟨rfl, rfl⟩]
      · have es : dop C (A 13) (zn t) (A t) w (k + 1) = dop C (A 13) (zn t) (A t) w k ||| (if zn (C.who k) = zn t then (if zn (C.wh k) = A t then (if (((A 13) >>> (zn k &&& 31)) &&& 1) = 1 then 0 else (if mns C w (zn (C.em k)) then (1 : Int32) <<< (zn k &&& 31) else 0)) else 0) else 0) := rfl
        rw [es]
        by_cases c1 : zn (C.who k) = zn t
        · by_cases c2 : zn (C.wh k) = A t
          · by_cases c3 : mns C w (zn (C.em k))
            · by_cases c4 : (((A 13) >>> (zn k &&& 31)) &&& 1) = 1
              · simp (disch := omega) only [m_goSay_L81, ↓lt_u, ↓jn_u, ↓bd_s, bd_s, ↓rf_s, rf_s, ↓nl_s, ↓nl_n, nl_s, nl_n, ↓reduceIte, ↓ckb24, ↓ckb256, ckb_T, ckb01, ↓ck_zn, ↓ck_l, ck_zn, ck_l, zn_addl, z_ne_o, o_ne_z, ↓cka_k hk3, ↓cka_l hk3, ix_l, ix_zn, zn_le, h3.ne, ↓bde (ms_field0 h3 hke), ↓bde (ms_field1 h3 hke), ↓bde (ms_field2 h3 hke), ↓bde (ms_means h3 hw _), ↓bde (ms_has _ _ _), u1, u2, i3, g, c1, c2, c3, c4]
              · simp (disch := omega) only [m_goSay_L81, ↓lt_u, ↓jn_u, ↓bd_s, bd_s, ↓rf_s, rf_s, ↓nl_s, ↓nl_n, nl_s, nl_n, ↓reduceIte, ↓ckb24, ↓ckb256, ckb_T, ckb01, ↓ck_zn, ↓ck_l, ck_zn, ck_l, zn_addl, z_ne_o, o_ne_z, ↓cka_k hk3, ↓cka_l hk3, ix_l, ix_zn, zn_le, h3.ne, ↓bde (ms_field0 h3 hke), ↓bde (ms_field1 h3 hke), ↓bde (ms_field2 h3 hke), ↓bde (ms_means h3 hw _), ↓bde (ms_has _ _ _), u1, u2, i3, g, c1, c2, c3, c4]
            · by_cases c4 : (((A 13) >>> (zn k &&& 31)) &&& 1) = 1
              · simp (disch := omega) only [m_goSay_L81, ↓lt_u, ↓jn_u, ↓bd_s, bd_s, ↓rf_s, rf_s, ↓nl_s, ↓nl_n, nl_s, nl_n, ↓reduceIte, ↓ckb24, ↓ckb256, ckb_T, ckb01, ↓ck_zn, ↓ck_l, ck_zn, ck_l, zn_addl, z_ne_o, o_ne_z, ↓cka_k hk3, ↓cka_l hk3, ix_l, ix_zn, zn_le, h3.ne, ↓bde (ms_field0 h3 hke), ↓bde (ms_field1 h3 hke), ↓bde (ms_field2 h3 hke), ↓bde (ms_means h3 hw _), ↓bde (ms_has _ _ _), u1, u2, i3, g, c1, c2, c3, c4]
              · simp (disch := omega) only [m_goSay_L81, ↓lt_u, ↓jn_u, ↓bd_s, bd_s, ↓rf_s, rf_s, ↓nl_s, ↓nl_n, nl_s, nl_n, ↓reduceIte, ↓ckb24, ↓ckb256, ckb_T, ckb01, ↓ck_zn, ↓ck_l, ck_zn, ck_l, zn_addl, z_ne_o, o_ne_z, ↓cka_k hk3, ↓cka_l hk3, ix_l, ix_zn, zn_le, h3.ne, ↓bde (ms_field0 h3 hke), ↓bde (ms_field1 h3 hke), ↓bde (ms_field2 h3 hke), ↓bde (ms_means h3 hw _), ↓bde (ms_has _ _ _), u1, u2, i3, g, c1, c2, c3, c4]
          · simp (disch := omega) only [m_goSay_L81, ↓lt_u, ↓jn_u, ↓bd_s, bd_s, ↓rf_s, rf_s, ↓nl_s, ↓nl_n, nl_s, nl_n, ↓reduceIte, ↓ckb24, ↓ckb256, ckb_T, ckb01, ↓ck_zn, ↓ck_l, ck_zn, ck_l, zn_addl, z_ne_o, o_ne_z, ↓cka_k hk3, ↓cka_l hk3, ix_l, ix_zn, zn_le, h3.ne, ↓bde (ms_field0 h3 hke), ↓bde (ms_field1 h3 hke), ↓bde (ms_field2 h3 hke), ↓bde (ms_means h3 hw _), ↓bde (ms_has _ _ _), u1, u2, i3, g, c1, c2]
        · simp (disch := omega) only [m_goSay_L81, ↓lt_u, ↓jn_u, ↓bd_s, bd_s, ↓rf_s, rf_s, ↓nl_s, ↓nl_n, nl_s, nl_n, ↓reduceIte, ↓ckb24, ↓ckb256, ckb_T, ckb01, ↓ck_zn, ↓ck_l, ck_zn, ck_l, zn_addl, z_ne_o, o_ne_z, ↓cka_k hk3, ↓cka_l hk3, ix_l, ix_zn, zn_le, h3.ne, ↓bde (ms_field0 h3 hke), ↓bde (ms_field1 h3 hke), ↓bde (ms_field2 h3 hke), ↓bde (ms_means h3 hw _), ↓bde (ms_has _ _ _), u1, u2, i3, g, c1]
    · obtain ⟨f3, hv3, i3⟩ := hI
      have h3 := h.sy ha f3
      have hk3 : M3.k a = (20, 44) := by rw [f3.k]; exact hk
      have u2 := hv3 13 (by omega)
      unfold gsA at u2
      rw [if_neg (by omega), if_neg (by omega), if_neg (by omega)] at u2
      refine ⟨M3.si a 13 (A 13 ||| dob C (A 13) (zn t) (A t) w), ?_, f3.si (Or.inr (Or.inl rfl)), fun j hj => ?_, ?_⟩
      · have i3' : M3.i 72 31 = dob C (A 13) (zn t) (A t) w := i3
        simp (disch := omega) only [m_goSay_L81, lt_u, jn_u, bd_s, rf_s, nl_s, nl_n, ↓reduceIte, ↓ckb24, ↓ckb256, ckb_T, ckb01, cka, ck_l, ix_l, zn_le, Nat.le_refl, h3.ne, hk3, u2, i3']
      · have hj3 := hv3 j hj
        unfold gsA at hj3
        unfold sayA
        rw [si_i]
        by_cases g1 : j = 13
        · rw [if_pos ⟨rfl, g1⟩, if_neg (by omega), if_neg (by omega), if_pos g1]
        · rw [if_neg (by omega), hj3, if_neg g1]
      · rw [si_i, if_neg (by omega)]; exact i3
    · rw [si_i, if_neg (by omega)]; exact hv2 j hj
    · rw [si_i, if_pos ⟨rfl, rfl⟩]; rfl
end
