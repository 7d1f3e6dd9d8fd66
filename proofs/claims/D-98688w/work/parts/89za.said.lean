set_option maxRecDepth 100000
/-! SAID: five digits are read -/
/-- where the reading of five digits stops -/
def fvd (b : Nat → Nat) (n : Nat) : Nat → Nat → Nat
  | 0, k => k
  | f + 1, k => if k < n ∧ isd (b k) = true then fvd b n f (k + 1) else k
theorem fvd_ok (b : Nat → Nat) (n : Nat) : ∀ f k, k ≤ fvd b n f k ∧ fvd b n f k ≤ k + f ∧ (k ≤ n → fvd b n f k ≤ n) := by
  intro f
  induction f with
  | zero => intro k; exact ⟨Nat.le_refl _, Nat.le_refl _, id⟩
  | succ f ih =>
    intro k
    unfold fvd
    by_cases g : k < n ∧ isd (b k) = true
    · rw [if_pos g]
      obtain ⟨h1, h2, h3⟩ := ih (k + 1)
      exact ⟨by omega, by omega, fun _ => h3 (by omega)⟩
    · rw [if_neg g]; exact ⟨Nat.le_refl _, by omega, id⟩
abbrev fdX (o j : Nat) : Prop := o = 66 ∨ (o = 20 ∧ j = 17)
abbrev fdY (o j : Nat) : Prop := o = 97 ∨ (o = 72 ∧ (j = 17 ∨ j = 18))
section
variable {M M1 : PM} {b : Nat → Nat} {n : Nat}
theorem xs_five (hn : n ≤ 80) (K47 K34 : PM → Option (Int32 × PM)) : ∀ f k F M, k + f = 5 → f < F → XP b n M → M.i 20 17 = zn k → (∀ i, i < k → M.i 66 i = zn (b i - 48)) → ∃ M', x_said_L9 K47 K34 F (zn k) M = (if fvd b n f k = 5 then K47 M' else K34 M') ∧ Fq fdX M M' ∧ XP b n M' ∧ M'.i 20 17 = zn (fvd b n f k) ∧ (fvd b n f k = 5 → ∀ i, i < 5 → M'.i 66 i = zn (b i - 48)) := by
  intro f
  induction f with
  | zero =>
    intro k F M hk hF hX h17 h66
    obtain ⟨F, rfl⟩ : ∃ m, F = m + 1 := ⟨F - 1, by omega⟩
    have k5 : k = 5 := by omega
    subst k5
    refine ⟨M, ?_, Fq.rf, hX, h17, fun _ => h66⟩
    rw [x_said_L9, if_pos (by decide)]
    rfl
  | succ f ih =>
    intro k F M hk hF hX h17 h66
    obtain ⟨F, rfl⟩ : ∃ m, F = m + 1 := ⟨F - 1, by omega⟩
    have hnum : x_number 1 M = _ := xp_number (d := 1) hX h17 (show k + 1 < 1000 by omega) (by omega)
    rw [x_said_L9, if_neg (by rw [l_le_zn (by omega) (by omega)]; omega)]
    unfold fvd
    by_cases g : k < n ∧ isd (b k) = true
    · rw [if_pos g] at hnum ⊢
      have hn1 : num b n 1 k 0 = (k + 1, b k - 48) := by
        unfold num
        rw [if_pos g]
        unfold num
        rw [Nat.mul_zero, Nat.zero_add]
      rw [hn1] at hnum
      have hnum' : x_number 1 M = some (zn (b k - 48), Mp M (k + 1)) := hnum
      have hb := hX.2.2.2.1 k
      obtain ⟨N, hN⟩ : ∃ N, N = (Mp M (k + 1)).si 66 k (zn (b k - 48)) := ⟨_, rfl⟩
      have fN : Fq (fun o j => (o = 66 ∧ j = k) ∨ (o = 20 ∧ j = 17)) M N := by
        rw [hN]
        exact Fq.si (c := fun o j => (o = 66 ∧ j = k) ∨ (o = 20 ∧ j = 17)) ((Mp.fq M _).mo (fun o j w => Or.inr w)) (Or.inl ⟨rfl, rfl⟩)
      have e66 : N.i 66 k = zn (b k - 48) := by rw [hN, si_i, if_pos ⟨rfl, rfl⟩]
      rw [bde hnum', ck_zn (by omega) (by omega), ix_zn (by omega), lt_u, ← hN, ck_zn (by omega) (by omega), e66, if_pos (zn_nonneg (by omega)), zn_addl, lt_u]
      obtain ⟨M2, e2, f2, r2⟩ := ih (k + 1) F N (by omega) (by omega) (hX.fr fN (by omega) (fun j => by omega)) (by rw [hN, si_i, if_neg (by omega)]; exact Mp.i17 _ _) (fun i hi => by
        by_cases e : i = k
        · rw [e]; exact e66
        · rw [fN.i _ _ (by omega)]; exact h66 i (by omega))
      exact ⟨M2, e2, (fN.mo (d := fdX) (fun o j w => w.elim (fun w => Or.inl w.1) Or.inr)).tr f2, r2⟩
    · rw [if_neg g] at hnum ⊢
      obtain ⟨N, hN⟩ : ∃ N, N = M.si 66 k (-1) := ⟨_, rfl⟩
      have fN : Fq (fun o j => o = 66) M N := by rw [hN]; exact Fq.si (c := fun o j => o = 66) Fq.rf rfl
      have e66 : N.i 66 k = -1 := by rw [hN, si_i, if_pos ⟨rfl, rfl⟩]
      rw [bde hnum, ck_zn (by omega) (by omega), ix_zn (by omega), lt_u, ← hN, ck_zn (by omega) (by omega), e66, if_neg (show ¬ (0 : Int32) ≤ -1 by decide)]
      exact ⟨N, by rw [if_neg (show ¬ k = 5 by omega)], fN.mo (d := fdX) (fun o j w => Or.inl w), hX.fr fN (by omega) (fun j => by omega), (fN.i _ _ (by omega)).trans h17, fun w => absurd w (by omega)⟩
theorem mf_five (Kc : PM → Option (Int32 × PM)) {p : Nat} (hp : p < 1000) : ∀ f k F M, k + f = 5 → f < F → M.i 72 18 = zn p → ∃ M', m_said_L13 Kc F (zn k) M = Kc M' ∧ Fq fdY M M' ∧ M'.i 72 18 = zn p := by
  intro f
  induction f with
  | zero =>
    intro k F M hk hF h18
    obtain ⟨F, rfl⟩ : ∃ m, F = m + 1 := ⟨F - 1, by omega⟩
    have k5 : k = 5 := by omega
    subst k5
    refine ⟨M, ?_, Fq.rf, h18⟩
    rw [m_said_L13, if_pos (by decide)]
  | succ f ih =>
    intro k F M hk hF h18
    obtain ⟨F, rfl⟩ : ∃ m, F = m + 1 := ⟨F - 1, by omega⟩
    obtain ⟨M2, e2, f2, r2⟩ := ih (k + 1) F (M.si 97 k 0) (by omega) (by omega) (by rw [si_i, if_neg (by omega)]; exact h18)
    refine ⟨M2, ?_, (Fq.si (c := fdY) Fq.rf (Or.inl rfl)).tr f2, r2⟩
    rw [m_said_L13, if_neg (by rw [l_le_zn (by omega) (by omega)]; omega), bde (pf_oneOf hp h18 48 10), ck_zn (by omega) (by omega), ix_zn (by omega), lt_u, zn_addl, lt_u, e2]
theorem ms_five (hn : n ≤ 80) (Kc : PM → Option (Int32 × PM)) : ∀ f k F M, k + f = 5 → f < F → RC 78 b n M → M.i 72 17 = zn k → (∀ i, i < k → M.i 97 i = zn (b i - 48)) → ∃ M', m_said_L13 Kc F (zn k) M = Kc M' ∧ Fq fdY M M' ∧ ((fvd b n f k = 5 ∧ RC 78 b n M' ∧ M'.i 72 17 = zn 5 ∧ ∀ i, i < 5 → M'.i 97 i = zn (b i - 48)) ∨ (fvd b n f k ≠ 5 ∧ M'.i 72 18 = zn (fvd b n f k))) := by
  intro f
  induction f with
  | zero =>
    intro k F M hk hF hR h17 h97
    obtain ⟨F, rfl⟩ : ∃ m, F = m + 1 := ⟨F - 1, by omega⟩
    have k5 : k = 5 := by omega
    subst k5
    refine ⟨M, ?_, Fq.rf, Or.inl ⟨rfl, hR, h17, h97⟩⟩
    rw [m_said_L13, if_pos (by decide)]
  | succ f ih =>
    intro k F M hk hF hR h17 h97
    obtain ⟨F, rfl⟩ : ∃ m, F = m + 1 := ⟨F - 1, by omega⟩
    have ho := ps_one48 hR h17 (show k ≤ 1000 by omega)
    rw [m_said_L13, if_neg (by rw [l_le_zn (by omega) (by omega)]; omega)]
    unfold fvd
    by_cases g : k < n ∧ isd (b k) = true
    · rw [if_pos g] at ho ⊢
      obtain ⟨N, hN⟩ : ∃ N, N = (Ma M (k + 1)).si 97 k (zn (b k - 48)) := ⟨_, rfl⟩
      have fN : Fq (fun o j => (o = 97 ∧ j = k) ∨ (o = 72 ∧ j = 17)) M N := by
        rw [hN]
        exact Fq.si (c := fun o j => (o = 97 ∧ j = k) ∨ (o = 72 ∧ j = 17)) ((Ma.fq M _).mo (fun o j w => Or.inr w)) (Or.inl ⟨rfl, rfl⟩)
      rw [bde ho, ck_zn (by omega) (by omega), ix_zn (by omega), lt_u, ← hN, zn_addl, lt_u]
      obtain ⟨M2, e2, f2, r2⟩ := ih (k + 1) F N (by omega) (by omega) (hR.fr fN (fun j w => by omega) (fun j => by omega)) (by rw [hN, si_i, if_neg (by omega)]; exact Ma.i17 _ _) (fun i hi => by
        by_cases e : i = k
        · rw [e, hN, si_i, if_pos ⟨rfl, rfl⟩]
        · rw [fN.i _ _ (by omega)]; exact h97 i (by omega))
      exact ⟨M2, e2, (fN.mo (d := fdY) (fun o j w => w.elim (fun w => Or.inl w.1) (fun w => Or.inr ⟨w.1, Or.inl w.2⟩))).tr f2, r2⟩
    · rw [if_neg g] at ho ⊢
      obtain ⟨M2, e2, f2, i2⟩ := mf_five Kc (show k < 1000 by omega) f (k + 1) F ((Mw M k).si 97 k 0) (by omega) (by omega) (by rw [si_i, if_neg (by omega)]; exact Mw.i18 _ _)
      refine ⟨M2, ?_, (Fq.si (c := fdY) ((Mw.fq M k).mo (fun o j w => Or.inr w)) (Or.inl rfl)).tr f2, Or.inr ⟨by omega, i2⟩⟩
      rw [bde ho, ck_zn (by omega) (by omega), ix_zn (by omega), lt_u, zn_addl, lt_u, e2]
end
