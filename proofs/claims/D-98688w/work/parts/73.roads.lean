set_option maxRecDepth 100000
/-! ROADS: 44 numbers: stations, purses, spent, hour, done, book -/
def RdS (M : PM) (a : Nat) : Prop := M.k a = (1, 0) ∧ (M.r a 0 = some (a + 1) ∧ M.r a 1 = some (a + 2) ∧ M.r a 2 = some (a + 3) ∧ M.r a 3 = some (a + 4)) ∧ M.k (a + 1) = (20, 4) ∧ M.k (a + 2) = (20, 4) ∧ M.k (a + 3) = (20, 4) ∧ M.k (a + 4) = (20, 30)
def RvX (a : Nat) (A : Nat → Int32) (M : PM) : Prop := (∀ t, t < 4 → M.i (a + 1) t = A t ∧ M.i (a + 2) t = A (4 + t) ∧ M.i (a + 3) t = A (8 + t)) ∧ M.i a 4 = A 12 ∧ M.i a 5 = A 13 ∧ ∀ k, k < 30 → M.i (a + 4) k = A (14 + k)
def RvY (a : Nat) (A : Nat → Int32) (M : PM) : Prop := ∀ j, j < 44 → M.i a j = A j
/-- a road's own places -/
abbrev rdc (a o j : Nat) : Prop := (o = a ∧ (j = 4 ∨ j = 5)) ∨ (a + 1 ≤ o ∧ o ≤ a + 4)
theorem RdS.of21 {M : PM} (h : Sh M) : RdS M 21 := ⟨kd21 h, ⟨rd21_0 h, rd21_1 h, rd21_2 h, rd21_3 h⟩, kd22 h, kd23 h, kd24 h, kd25 h⟩
theorem RdS.of26 {M : PM} (h : Sh M) : RdS M 26 := ⟨kd26 h, ⟨rd26_0 h, rd26_1 h, rd26_2 h, rd26_3 h⟩, kd27 h, kd28 h, kd29 h, kd30 h⟩
theorem RdS.of52 {M : PM} (h : Sh M) : RdS M 52 := ⟨kd52 h, ⟨rd52_0 h, rd52_1 h, rd52_2 h, rd52_3 h⟩, kd53 h, kd54 h, kd55 h, kd56 h⟩
theorem RdS.fr {c : Nat → Nat → Prop} {M M' : PM} {a : Nat} (h : RdS M a) (f : Fq c M M') (hc : ∀ j, j < 4 → ¬ c a j) : RdS M' a := by
  obtain ⟨h1, ⟨h2, h3, h4, h5⟩, h6⟩ := h
  unfold RdS
  rw [f.k, f.r a 0 (hc 0 (by omega)), f.r a 1 (hc 1 (by omega)), f.r a 2 (hc 2 (by omega)), f.r a 3 (hc 3 (by omega))]
  exact ⟨h1, ⟨h2, h3, h4, h5⟩, h6⟩
theorem RvX.fr {c : Nat → Nat → Prop} {M M' : PM} {a : Nat} {A : Nat → Int32} (h : RvX a A M) (f : Fq c M M') (hc : ∀ o j, rdc a o j → ¬ c o j) : RvX a A M' := by
  obtain ⟨h1, h2, h3, h4⟩ := h
  refine ⟨fun t ht => ?_, ?_, ?_, fun k hk => ?_⟩
  · rw [f.i _ _ (hc (a + 1) t (by unfold rdc; omega)), f.i _ _ (hc (a + 2) t (by unfold rdc; omega)), f.i _ _ (hc (a + 3) t (by unfold rdc; omega))]
    exact h1 t ht
  · rw [f.i _ _ (hc a 4 (by unfold rdc; omega))]; exact h2
  · rw [f.i _ _ (hc a 5 (by unfold rdc; omega))]; exact h3
  · rw [f.i _ _ (hc (a + 4) k (by unfold rdc; omega))]; exact h4 k hk
theorem RvY.fr {c : Nat → Nat → Prop} {M M' : PM} {a : Nat} {A : Nat → Int32} (h : RvY a A M) (f : Fq c M M') (hc : ∀ j, ¬ c a j) : RvY a A M' := fun j hj => by
  rw [f.i a j (hc j)]; exact h j hj
theorem RvX.eq {a : Nat} {A B : Nat → Int32} {M : PM} (h : RvX a A M) (e : ∀ j, j < 44 → A j = B j) : RvX a B M := by
  obtain ⟨h1, h2, h3, h4⟩ := h
  refine ⟨fun t ht => ?_, ?_, ?_, fun k hk => ?_⟩
  · rw [← e t (by omega), ← e (4 + t) (by omega), ← e (8 + t) (by omega)]; exact h1 t ht
  · rw [← e 12 (by omega)]; exact h2
  · rw [← e 13 (by omega)]; exact h3
  · rw [← e (14 + k) (by omega)]; exact h4 k hk
section
theorem ckk_k {α : Type} {M : PM} {a c n : Nat} {x : Option α} (h : M.k a = (c, n)) : ckk M a c x = x := by
  unfold ckk
  rw [h]
  exact if_pos rfl
theorem ckc_l {α : Type} {M : PM} {a b na nb n : Nat} {x : Option α} (ha : M.k a = (20, na)) (hb : M.k b = (20, nb)) (h1 : (OfNat.ofNat n : Nat) ≤ na) (h2 : (OfNat.ofNat n : Nat) ≤ nb) (h3 : (OfNat.ofNat n : Nat) < 2147483648) : ckc M a 0 b 0 (no_index (OfNat.ofNat n) : Int32) x = x := by
  unfold ckc
  rw [ha, hb]
  have e0 : ix 0 = 0 := ix_zn (k := 0) (by omega)
  have en : ix (OfNat.ofNat n : Int32) = (OfNat.ofNat n : Nat) := ix_l n h3
  refine if_pos ⟨⟨rfl, rfl⟩, ⟨by decide, by decide, ?_⟩, ?_, ?_⟩
  · exact fun q => Int32.not_lt.mpr (zn_nonneg h3) q
  · rw [e0, en]; omega
  · rw [e0, en]; omega
variable {M : PM} {a b : Nat} {A B : Nat → Int32}
theorem xs_becomes (ha : RdS M a) (hb : RdS M b) (hd : b + 4 < a ∨ a + 4 < b) (hv : RvX b B M) : ∃ M', rd_becomes a b M = some ((), M') ∧ Fq (rdc a) M M' ∧ RvX a B M' := by
  obtain ⟨a0, ⟨a1, a2, a3, a4⟩, a5, a6, a7, a8⟩ := ha
  obtain ⟨b0, ⟨b1, b2, b3, b4⟩, b5, b6, b7, b8⟩ := hb
  obtain ⟨v1, v2, v3, v4⟩ := hv
  refine ⟨(((((M.ci (b + 1) 0 (a + 1) 0 4).ci (b + 2) 0 (a + 2) 0 4).ci (b + 3) 0 (a + 3) 0 4).ci (b + 4) 0 (a + 4) 0 30).si a 4 (M.i b 4)).si a 5 (M.i b 5), ?_, ?_, ?_⟩
  · have n1 : ¬ b = a := by omega
    have n2 : ¬ b = a + 1 := by omega
    have n3 : ¬ b = a + 2 := by omega
    have n4 : ¬ b = a + 3 := by omega
    have n5 : ¬ b = a + 4 := by omega
    have c1 : (M.ci (b + 1) 0 (a + 1) 0 4).k = M.k := rfl
    unfold rd_becomes
    rw [ckk_k b0, lt_u, ckk_k a0, lt_u, a1, rf_s, b1, rf_s, ckc_l b5 a5 (by omega) (by omega) (by omega), lt_u]
    rw [ckk_k (M := M.ci _ _ _ _ _) b0, lt_u, ckk_k (M := M.ci _ _ _ _ _) a0, lt_u, vci_r, a2, rf_s, b2, rf_s, ckc_l (M := M.ci _ _ _ _ _) b6 a6 (by omega) (by omega) (by omega), lt_u]
    rw [ckk_k (M := (M.ci _ _ _ _ _).ci _ _ _ _ _) b0, lt_u, ckk_k (M := (M.ci _ _ _ _ _).ci _ _ _ _ _) a0, lt_u, vci_r, vci_r, a3, rf_s, b3, rf_s, ckc_l (M := (M.ci _ _ _ _ _).ci _ _ _ _ _) b7 a7 (by omega) (by omega) (by omega), lt_u]
    rw [ckk_k (M := ((M.ci _ _ _ _ _).ci _ _ _ _ _).ci _ _ _ _ _) b0, lt_u, ckk_k (M := ((M.ci _ _ _ _ _).ci _ _ _ _ _).ci _ _ _ _ _) a0, lt_u, vci_r, vci_r, vci_r, a4, rf_s, b4, rf_s, ckc_l (M := ((M.ci _ _ _ _ _).ci _ _ _ _ _).ci _ _ _ _ _) b8 a8 (by omega) (by omega) (by omega), lt_u]
    rw [ckk_k (M := (((M.ci _ _ _ _ _).ci _ _ _ _ _).ci _ _ _ _ _).ci _ _ _ _ _) b0, ckk_k (M := (((M.ci _ _ _ _ _).ci _ _ _ _ _).ci _ _ _ _ _).ci _ _ _ _ _) a0, lt_u]
    rw [ckk_k (M := ((((M.ci _ _ _ _ _).ci _ _ _ _ _).ci _ _ _ _ _).ci _ _ _ _ _).si _ _ _) b0, ckk_k (M := ((((M.ci _ _ _ _ _).ci _ _ _ _ _).ci _ _ _ _ _).ci _ _ _ _ _).si _ _ _) a0, lt_u]
    have i4 : ((((M.ci (b + 1) 0 (a + 1) 0 4).ci (b + 2) 0 (a + 2) 0 4).ci (b + 3) 0 (a + 3) 0 4).ci (b + 4) 0 (a + 4) 0 30).i b 4 = M.i b 4 := by
      rw [ci_i, if_neg n5, ci_i, if_neg n4, ci_i, if_neg n3, ci_i, if_neg n2]
    have i5 : ((((M.ci (b + 1) 0 (a + 1) 0 4).ci (b + 2) 0 (a + 2) 0 4).ci (b + 3) 0 (a + 3) 0 4).ci (b + 4) 0 (a + 4) 0 30).i b 5 = M.i b 5 := by
      rw [ci_i, if_neg n5, ci_i, if_neg n4, ci_i, if_neg n3, ci_i, if_neg n2]
    have z0 : ix 0 = 0 := ix_zn (k := 0) (by omega)
    have z4 : ix 4 = 4 := ix_zn (k := 4) (by omega)
    have z30 : ix 30 = 30 := ix_zn (k := 30) (by omega)
    rw [z0, z4, z30, i4, si_i, if_neg (by omega), i5]
  · refine Fq.si (Fq.si (Fq.ci (Fq.ci (Fq.ci (Fq.ci Fq.rf ?_) ?_) ?_) ?_) ?_) ?_
    all_goals (intros; unfold rdc; omega)
  · refine ⟨fun t ht => ?_, ?_, ?_, fun k hk => ?_⟩
    · obtain ⟨w1, w2, w3⟩ := v1 t ht
      have t1 : t < 30 := by omega
      simp (disch := omega) only [ci_i, vsi_i, Nat.reduceEqDiff, Nat.add_right_cancel_iff, Nat.add_eq_left, and_self, and_true, true_and, and_false, false_and, or_self, or_true, true_or, or_false, false_or, not_true_eq_false, not_false_eq_true, ne_eq, eq_self, reduceCtorEq, Nat.zero_le, Nat.zero_add, Nat.sub_zero, ht, ↓reduceIte, show ¬ (b + 2 = a + 1) by omega, show ¬ (b + 3 = a + 1) by omega, show ¬ (b + 3 = a + 2) by omega, show ¬ (a + 1 = a) by omega, show ¬ (a + 2 = a) by omega, show ¬ (a + 3 = a) by omega, show ¬ (a + 1 = a + 2) by omega, show ¬ (a + 1 = a + 3) by omega, show ¬ (a + 1 = a + 4) by omega, show ¬ (a + 2 = a + 1) by omega, show ¬ (a + 2 = a + 3) by omega, show ¬ (a + 2 = a + 4) by omega, show ¬ (a + 3 = a + 4) by omega]
      exact ⟨w1, w2, w3⟩
    · simp only [vsi_i, and_self, and_true, true_and, and_false, false_and, or_self, or_true, true_or, or_false, false_or, not_true_eq_false, not_false_eq_true, ne_eq, eq_self, reduceCtorEq, Nat.reduceEqDiff, Nat.reduceAdd, Nat.reduceMul, Nat.reduceSub, Nat.reduceLT, Nat.reduceLeDiff, Nat.reduceDiv, Nat.add_zero, Nat.zero_add, Nat.not_lt_zero, Nat.zero_le, Nat.le_refl, Nat.lt_irrefl, ↓reduceIte]; exact v2
    · simp only [vsi_i, and_self, and_true, true_and, and_false, false_and, or_self, or_true, true_or, or_false, false_or, not_true_eq_false, not_false_eq_true, ne_eq, eq_self, reduceCtorEq, Nat.reduceEqDiff, Nat.reduceAdd, Nat.reduceMul, Nat.reduceSub, Nat.reduceLT, Nat.reduceLeDiff, Nat.reduceDiv, Nat.add_zero, Nat.zero_add, Nat.not_lt_zero, Nat.zero_le, Nat.le_refl, Nat.lt_irrefl, ↓reduceIte]; exact v3
    · have w4 := v4 k hk
      simp (disch := omega) only [ci_i, vsi_i, and_self, and_true, true_and, and_false, false_and, or_self, or_true, true_or, or_false, false_or, not_true_eq_false, not_false_eq_true, ne_eq, eq_self, reduceCtorEq, Nat.zero_le, Nat.zero_add, Nat.sub_zero, hk, ↓reduceIte, show ¬ (a + 4 = a) by omega, show ¬ (b + 4 = a + 1) by omega, show ¬ (b + 4 = a + 2) by omega, show ¬ (b + 4 = a + 3) by omega]
      exact w4
end
