set_option maxRecDepth 100000
/-! SENTENCES: the call -/
def ldg (b : Nat → Nat) (n : Nat) : Nat → Nat → Nat
  | 0, k => k
  | f + 1, k => if k < n ∧ isd (b k) = true then ldg b n f (k + 1) else k
theorem ldg_ok (b : Nat → Nat) (n : Nat) : ∀ f k, (∀ i, i < k → isd (b i) = true) → k ≤ ldg b n f k ∧ ldg b n f k ≤ k + f ∧ (k ≤ n → ldg b n f k ≤ n) ∧ ∀ i, i < ldg b n f k → isd (b i) = true := by
  intro f
  induction f with
  | zero => intro k h; exact ⟨Nat.le_refl _, Nat.le_refl _, id, h⟩
  | succ f ih =>
    intro k h
    unfold ldg
    by_cases g : k < n ∧ isd (b k) = true
    · rw [if_pos g]
      obtain ⟨h1, h2, h3, h4⟩ := ih (k + 1) (fun i hi => by
        by_cases e : i = k
        · rw [e]; exact g.2
        · exact h i (by omega))
      exact ⟨by omega, by omega, fun _ => h3 (by omega), h4⟩
    · rw [if_neg g]
      exact ⟨Nat.le_refl _, by omega, id, h⟩
theorem b8_isd : ∀ c, c < 256 → (48 ≤ b8 c ∧ b8 c ≤ 57) = (isd c = true) := by
  have h : ∀ c, c < 256 → decide (48 ≤ b8 c ∧ b8 c ≤ 57) = isd c := by decide +kernel
  intro c hc
  have := h c hc
  rw [← this, decide_eq_true_eq]
theorem ck014 {α : Type} {x : Option α} : ck 0 14 x = x := ck_zn (a := 0) (by omega) (by omega)
theorem ck013 {α : Type} {x : Option α} : ck 0 13 x = x := ck_zn (a := 0) (by omega) (by omega)
abbrev cdX (o j : Nat) : Prop := o = 59 ∨ (o = 20 ∧ (j = 17 ∨ j = 51))
theorem cdX_qt : ∀ o j, cdX o j → xqt o j := fun o j q => Or.inl (by
  rcases q with q | q
  · unfold ts; omega
  · unfold ts; omega)
theorem csX_qt : ∀ o j, csX o j → xqt o j := fun o j q => Or.inl (by
  rcases q with q | q
  · exact ca_ts o j q
  · unfold ts; omega)
theorem csY_qt : ∀ o j, csY o j → yqt o j := fun o j q => Or.inl (by
  rcases q with q | q
  · exact ca_ts o j q
  · unfold ts; omega)
section
variable {C : SV} {A : Nat → Int32} {M M1 : PM} {nT nU ch n s : Nat} {bT b : Nat → Nat} {U : Nat → Nat → Int32} {K : Nat → Bool × (Nat → Int32) × Nat} {l : List Int64}
theorem xs_digs (hn : n ≤ 80) (c1 : Int32) (Kc : PM → Option (Int32 × PM)) : ∀ f k F M, k + f = 12 → f < F → XP b n M → M.i 20 17 = zn k → M.i 20 51 = zn k → (∀ i, i < k → M.i 59 i = zn (b i - 48)) → ∃ M', x_sentence_L23 c1 Kc F M = Kc M' ∧ Fq cdX M M' ∧ XP b n M' ∧ M'.i 20 17 = zn (ldg b n f k) ∧ M'.i 20 51 = zn (ldg b n f k) ∧ ∀ i, i < ldg b n f k → M'.i 59 i = zn (b i - 48) := by
  intro f
  induction f with
  | zero =>
    intro k F M hk hF hX h17 h51 h59
    obtain ⟨F, rfl⟩ : ∃ m, F = m + 1 := ⟨F - 1, by omega⟩
    refine ⟨M, ?_, Fq.rf, hX, h17, h51, h59⟩
    rw [x_sentence_L23]
    simp only [jn_u]
    rw [h51, if_pos (by rw [l_le_zn (by omega) (by omega)]; omega)]
  | succ f ih =>
    intro k F M hk hF hX h17 h51 h59
    obtain ⟨F, rfl⟩ : ∃ m, F = m + 1 := ⟨F - 1, by omega⟩
    have hun : x_sentence_L23 c1 Kc (F + 1) M = if 12 ≤ zn k then Kc M else bd (x_isDigit M) fun v3 M6 => if v3 = 0 then Kc M6 else bd (x_number 1 M6) fun v4 M7 => ck (M6.i 20 51) 13 <| x_sentence_L23 c1 Kc F ((M7.si 59 (ix (M6.i 20 51)) v4).si 20 51 (((M7.si 59 (ix (M6.i 20 51)) v4).i 20 51) + 1)) := by
      rw [x_sentence_L23]
      simp only [jn_u, lt_u]
      rw [h51]
    rw [hun, if_neg (by rw [l_le_zn (by omega) (by omega)]; omega), bde (xp_isDigit hX h17 (by omega))]
    unfold ldg
    by_cases g : k < n ∧ isd (b k) = true
    · rw [if_pos g, if_pos g, if_neg (show ¬ (1 : Int32) = 0 by decide)]
      have hnum : x_number 1 M = _ := xp_number (d := 1) hX h17 (show k + 1 < 1000 by omega) (by omega)
      rw [if_pos g] at hnum
      have hn1 : num b n 1 k 0 = (k + 1, b k - 48) := by
        unfold num
        rw [if_pos g]
        unfold num
        rw [Nat.mul_zero, Nat.zero_add]
      rw [hn1] at hnum
      have hnum' : x_number 1 M = some (zn (b k - 48), Mp M (k + 1)) := hnum
      have j51 : ((Mp M (k + 1)).si 59 k (zn (b k - 48))).i 20 51 = zn k := by rw [si_i, if_neg (by omega), si_i, if_neg (by omega)]; exact h51
      rw [bde hnum', h51, ck_zn (by omega) (by omega), ix_zn (by omega), j51, zn_addl]
      obtain ⟨N, hN⟩ : ∃ N, N = ((Mp M (k + 1)).si 59 k (zn (b k - 48))).si 20 51 (zn (k + 1)) := ⟨_, rfl⟩
      have fN : Fq (fun o j => (o = 59 ∧ j = k) ∨ (o = 20 ∧ (j = 17 ∨ j = 51))) M N := by
        rw [hN]
        exact Fq.si (c := fun o j => (o = 59 ∧ j = k) ∨ (o = 20 ∧ (j = 17 ∨ j = 51))) (Fq.si (c := fun o j => (o = 59 ∧ j = k) ∨ (o = 20 ∧ (j = 17 ∨ j = 51))) ((Mp.fq M _).mo (fun o j w => Or.inr ⟨w.1, Or.inl w.2⟩)) (Or.inl ⟨rfl, rfl⟩)) (Or.inr ⟨rfl, Or.inr rfl⟩)
      rw [← hN]
      obtain ⟨M2, e2, f2, r2⟩ := ih (k + 1) F N (by omega) (by omega) (hX.fr fN (by omega) (fun j => by omega)) (by rw [hN, si_i, if_neg (by omega), si_i, if_neg (by omega)]; exact Mp.i17 _ _) (by rw [hN, si_i, if_pos ⟨rfl, rfl⟩]) (fun i hi => by
        by_cases e : i = k
        · rw [e, hN, si_i, if_neg (by omega), si_i, if_pos ⟨rfl, rfl⟩]
        · rw [fN.i _ _ (by omega)]; exact h59 i (by omega))
      exact ⟨M2, e2, (fN.mo (d := cdX) (fun o j w => w.elim (fun w => Or.inl w.1) Or.inr)).tr f2, r2⟩
    · rw [if_neg g, if_neg g, if_pos rfl]
      exact ⟨M, rfl, Fq.rf, hX, h17, h51, h59⟩
theorem ms_digs (hn : n ≤ 80) (c1 : Int32) (K65 : PM → Option (Int32 × PM)) (K55 : Int32 → PM → Option (Int32 × PM)) (hT : TY 0 b M) : ∀ f k F, k + f = 12 → f < F → k ≤ n → m_sentence_L28 c1 (zn n) K65 K55 F (zn k) M = if ldg b n f k = n then K65 M else K55 (zn (ldg b n f k)) M := by
  intro f
  induction f with
  | zero =>
    intro k F hk hF hkn
    obtain ⟨F, rfl⟩ : ∃ m, F = m + 1 := ⟨F - 1, by omega⟩
    rw [m_sentence_L28]
    simp only [jn_u]
    unfold ldg
    by_cases g : k = n
    · rw [if_pos (show zn n ≤ zn k by rw [g]; exact Int32.le_refl _), if_pos g]
    · rw [if_neg (show ¬ zn n ≤ zn k by rw [zn_le (by omega) (by omega)]; omega), if_neg g, if_pos (show zn k = 12 by rw [show k = 12 by omega]; rfl)]
  | succ f ih =>
    intro k F hk hF hkn
    obtain ⟨F, rfl⟩ : ∃ m, F = m + 1 := ⟨F - 1, by omega⟩
    rw [m_sentence_L28]
    simp only [jn_u, lt_u]
    unfold ldg
    by_cases g : k = n
    · rw [if_pos (show zn n ≤ zn k by rw [g]; exact Int32.le_refl _), if_neg (show ¬ (k < n ∧ isd (b k) = true) from fun w => by omega), if_pos g]
    · rw [if_neg (show ¬ zn n ≤ zn k by rw [zn_le (by omega) (by omega)]; omega), if_neg (show ¬ zn k = 12 by rw [zn_eq_l (by omega) (by omega)]; omega), ck_zn (by omega) (by omega), ix_zn (by omega), hT.2.2 k (by omega), m_in32, bd_s]
      by_cases g2 : isd (b k) = true
      · rw [if_pos (show 48 ≤ b8 (b k) ∧ b8 (b k) ≤ 57 from (b8_isd _ (hT.1.2 k)).mpr g2), if_neg (show ¬ (1 : Int32) = 0 by decide), zn_addl, if_pos (show k < n ∧ isd (b k) = true from ⟨by omega, g2⟩)]
        exact ih (k + 1) F (by omega) (by omega) (by omega)
      · rw [if_neg (show ¬ (48 ≤ b8 (b k) ∧ b8 (b k) ≤ 57) from fun w => g2 ((b8_isd _ (hT.1.2 k)).mp w)), if_pos rfl, if_neg (show ¬ (k < n ∧ isd (b k) = true) from fun w => g2 w.2), if_neg g]
end
