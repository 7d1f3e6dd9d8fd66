set_option maxRecDepth 100000
/-! JOURNEYS: an act is read -/
abbrev DJ : Type := Nat × Nat
def isj (c : Nat) : Bool := decide (c = 60) || decide (c = 62) || decide (c = 33) || isd c
def lnJ (b : Nat → Nat) (e p : Nat) : Nat × Option DJ :=
  if p < e ∧ b p = 119 then (if p + 1 < e ∧ isd (b (p + 1)) = true then ((num b e 2 (p + 1) 0).1, some (119, (num b e 2 (p + 1) 0).2)) else (p + 1, none))
  else if p < e ∧ 97 ≤ b p ∧ b p < 101 then (if p + 1 < e ∧ isj (b (p + 1)) = true then (p + 2, some (b (p + 1), b p - 97)) else (p + 1, none))
  else (p, none)
def okJ (d : DJ) : Prop := (d.1 = 119 ∧ d.2 ≤ 99) ∨ (isj d.1 = true ∧ d.2 ≤ 3)
theorem isj_lt {c : Nat} (h : isj c = true) : c < 63 ∧ 33 ≤ c := by
  simp only [isj, isd, Bool.or_eq_true, Bool.and_eq_true, decide_eq_true_eq] at h
  omega
theorem numg (b : Nat → Nat) (e d p : Nat) (h : p < e ∧ isd (b p) = true) : p + 1 ≤ (num b e (d + 1) p 0).1 := by
  unfold num
  rw [if_pos h]
  exact (num_ge b e d (p + 1) _).1
theorem lnJ_ge (b : Nat → Nat) (e p : Nat) (hp : p ≤ e) : p ≤ (lnJ b e p).1 ∧ (lnJ b e p).1 ≤ e := by
  unfold lnJ
  by_cases g1 : p < e ∧ b p = 119
  · rw [if_pos g1]
    by_cases g2 : p + 1 < e ∧ isd (b (p + 1)) = true
    · rw [if_pos g2]
      obtain ⟨h1, h2, h3⟩ := num2 b e (p + 1) (by omega)
      exact ⟨by show p ≤ (num b e 2 (p + 1) 0).1; omega, h2⟩
    · rw [if_neg g2]; exact ⟨by show p ≤ p + 1; omega, by show p + 1 ≤ e; omega⟩
  · rw [if_neg g1]
    by_cases g2 : p < e ∧ 97 ≤ b p ∧ b p < 101
    · rw [if_pos g2]
      by_cases g3 : p + 1 < e ∧ isj (b (p + 1)) = true
      · rw [if_pos g3]; exact ⟨by show p ≤ p + 2; omega, by show p + 2 ≤ e; omega⟩
      · rw [if_neg g3]; exact ⟨by show p ≤ p + 1; omega, by show p + 1 ≤ e; omega⟩
    · rw [if_neg g2]; exact ⟨Nat.le_refl _, hp⟩
theorem lnJ_ok {b : Nat → Nat} {e p q : Nat} {d : DJ} (h : lnJ b e p = (q, some d)) : p + 2 ≤ q ∧ okJ d := by
  unfold lnJ at h
  by_cases g1 : p < e ∧ b p = 119
  · rw [if_pos g1] at h
    by_cases g2 : p + 1 < e ∧ isd (b (p + 1)) = true
    · rw [if_pos g2] at h
      have h0 := numg b e 1 (p + 1) g2
      obtain ⟨h1, h2, h3⟩ := num2 b e (p + 1) (by omega)
      cases h
      exact ⟨h0, Or.inl ⟨rfl, h3⟩⟩
    · rw [if_neg g2] at h; cases h
  · rw [if_neg g1] at h
    by_cases g2 : p < e ∧ 97 ≤ b p ∧ b p < 101
    · rw [if_pos g2] at h
      by_cases g3 : p + 1 < e ∧ isj (b (p + 1)) = true
      · rw [if_pos g3] at h
        cases h
        exact ⟨Nat.le_refl _, Or.inr ⟨g3.2, by show b p - 97 ≤ 3; omega⟩⟩
      · rw [if_neg g3] at h; cases h
    · rw [if_neg g2] at h; cases h
theorem jdx_8 : ∀ c, c < 256 → idx 8 (zn c) = if 97 ≤ c ∧ c < 101 then zn (c - 97) else -1 := by decide +kernel
theorem jdx_9 : ∀ c, c < 256 → decide (0 ≤ idx 9 (zn c)) = isj c := by decide +kernel
abbrev cjX (o j : Nat) : Prop := (57 ≤ o ∧ o ≤ 58) ∨ (o = 20 ∧ (j = 17 ∨ j = 47))
abbrev cjY (o j : Nat) : Prop := o = 89 ∨ (o = 72 ∧ (j = 17 ∨ j = 18))
def xiJ (k : Nat) (F : Nat → DJ) (M : PM) : Prop := M.i 20 47 = zn k ∧ ∀ i, i < k → okJ (F i) ∧ M.i 57 i = zn (F i).1 ∧ M.i 58 i = zn (F i).2
def yiJ (k : Nat) (F : Nat → DJ) (M : PM) : Prop := ∀ i, i < k → okJ (F i) ∧ M.i 89 (3 * i) = (if isd (F i).1 = true then 115 else zn (F i).1) ∧ M.i 89 (3 * i + 1) = zn (F i).2 ∧ (isd (F i).1 = true → M.i 89 (3 * i + 2) = zn ((F i).1 - 48))
section
variable {M M1 N : PM} {b : Nat → Nat} {e p k : Nat} {F : Nat → DJ}
theorem tk8 (h : XP b e M) (h17 : M.i 20 17 = zn p) (hp : p ≤ 1000) : x_takesOf 8 M = if p < e ∧ 97 ≤ b p ∧ b p < 101 then some (zn (b p - 97), Mp M (p + 1)) else some (-1, M) := by
  have hb := h.2.2.2.1 p
  rw [xp_takesOf h h17 hp (by omega)]
  unfold amv
  by_cases g : p < e
  · rw [if_pos g, jdx_8 _ hb]
    by_cases g2 : 97 ≤ b p ∧ b p < 101
    · rw [if_pos g2, if_neg (Int32.not_lt.mpr (zn_nonneg (by omega))), if_pos ⟨g, g2⟩]
    · rw [if_neg g2, if_pos (by decide), if_neg (show ¬ (p < e ∧ 97 ≤ b p ∧ b p < 101) from fun w => g2 w.2)]
  · rw [if_neg g, if_pos (by decide), if_neg (show ¬ (p < e ∧ 97 ≤ b p ∧ b p < 101) from fun w => g w.1)]
theorem am9 (h : XP b e M) (h17 : M.i 20 17 = zn p) (hp : p ≤ 1000) : x_among 9 M = some (amv b e 9 p, M) ∧ ((p < e ∧ isj (b p) = true) → 0 ≤ amv b e 9 p) ∧ (¬ (p < e ∧ isj (b p) = true) → ¬ 0 ≤ amv b e 9 p) := by
  have hb := h.2.2.2.1 p
  have h9 := jdx_9 _ hb
  refine ⟨xp_among h h17 hp (by omega), fun w => ?_, fun w => ?_⟩
  · unfold amv
    rw [if_pos w.1]
    rw [w.2] at h9
    exact of_decide_eq_true h9
  · unfold amv
    by_cases g : p < e
    · rw [if_pos g]
      have : isj (b p) = false := by
        cases q : isj (b p) with
        | false => rfl
        | true => exact absurd ⟨g, q⟩ w
      rw [this] at h9
      exact of_decide_eq_false h9
    · rw [if_neg g]; decide
theorem xs_readsJ (he : e ≤ 80) (hk : k < 40) (hp : p ≤ e) (hX : XP b e M) (h17 : M.i 20 17 = zn p) (hI : xiJ k F M) : ∃ M', Fq cjX M M' ∧ XP b e M' ∧ M'.i 20 17 = zn (lnJ b e p).1 ∧ (p ≤ (lnJ b e p).1 ∧ (lnJ b e p).1 ≤ e) ∧ (((lnJ b e p).2 = none ∧ x_readsAct M = some (0, M')) ∨ ∃ d, (lnJ b e p).2 = some d ∧ x_readsAct M = some (1, M') ∧ xiJ (k + 1) (exF F k d) M') := by
  obtain ⟨i47, i2⟩ := hI
  have hge := lnJ_ge b e p hp
  obtain ⟨N, hN⟩ : ∃ N, N = M.si 20 47 (zn (k + 1)) := ⟨_, rfl⟩
  have fN : Fq (fun o j => o = 20 ∧ j = 47) M N := by rw [hN]; exact Fq.si (c := fun o j => o = 20 ∧ j = 47) Fq.rf ⟨rfl, rfl⟩
  have XN : XP b e N := hX.fr fN (by omega) (fun j => by omega)
  have N17 : N.i 20 17 = zn p := (fN.i _ _ (by omega)).trans h17
  have N47 : N.i 20 47 = zn (k + 1) := by rw [hN, si_i, if_pos ⟨rfl, rfl⟩]
  have FN : Fq cjX M N := fN.mo (d := cjX) (fun o j w => by unfold cjX; omega)
  have hun0 : x_readsAct M = bd (x_eats 119 N) fun v2 M2 => if v2 = 0 then (bd (x_takesOf 8 M2) fun v3 M3 => lt (M3.si 58 k v3) fun M4 => if (M4.i 58 k) < 0 then (some (0, M4)) else (bd (x_among 9 M4) fun v4 M5 => if 0 ≤ v4 then (ck (M5.i 20 17) 80 <| lt (M5.si 57 k (M5.i 39 (ix (M5.i 20 17)))) fun M6 => lt (M6.si 20 17 ((M6.i 20 17) + 1)) fun M7 => some (1, M7)) else (some (0, M5)))) else (lt (M2.si 57 k 119) fun M8 => bd (x_number 2 M8) fun v5 M9 => lt (M9.si 58 k v5) fun M10 => if (M10.i 58 k) < 0 then (some (0, M10)) else (some (1, M10))) := by
    unfold x_readsAct
    rw [i47, lt_u, zn_addl, lt_u, ← hN]
    simp (disch := omega) only [ck_zn, ix_zn]
  have he := xp_eats (d := 119) XN N17 (show p ≤ 1000 by omega) (by omega)
  have he119 : x_eats 119 N = _ := he
  have ext : ∀ (d : DJ) (M' : PM), okJ d → M'.i 20 47 = zn (k + 1) → M'.i 57 k = zn d.1 → M'.i 58 k = zn d.2 → (∀ i, i < k → M'.i 57 i = M.i 57 i ∧ M'.i 58 i = M.i 58 i) → xiJ (k + 1) (exF F k d) M' := by
    intro d M' h1 h2 h3 h4 h5
    refine ⟨h2, fun i hi => ?_⟩
    unfold exF
    by_cases ei : i = k
    · rw [if_pos ei, ei]; exact ⟨h1, h3, h4⟩
    · rw [if_neg ei]
      obtain ⟨w1, w2, w3⟩ := i2 i (by omega)
      obtain ⟨z1, z2⟩ := h5 i (by omega)
      exact ⟨w1, z1.trans w2, z2.trans w3⟩
  have hok : ∀ q d, lnJ b e p = (q, some d) → okJ d := fun q d w => (lnJ_ok w).2
  revert hge hok
  unfold lnJ
  by_cases g1 : p < e ∧ b p = 119
  · rw [if_pos g1] at he119 ⊢
    obtain ⟨N2, hN2⟩ : ∃ N2, N2 = (Mp N (p + 1)).si 57 k 119 := ⟨_, rfl⟩
    have f2 : Fq (fun o j => (o = 57 ∧ j = k) ∨ (o = 20 ∧ j = 17)) N N2 := by
      rw [hN2]; exact Fq.si (c := fun o j => (o = 57 ∧ j = k) ∨ (o = 20 ∧ j = 17)) ((Mp.fq N _).mo (fun o j w => Or.inr w)) (Or.inl ⟨rfl, rfl⟩)
    have X2 : XP b e N2 := XN.fr f2 (by omega) (fun j => by omega)
    have q17 : N2.i 20 17 = zn (p + 1) := by rw [hN2, si_i, if_neg (by omega)]; exact Mp.i17 N _
    have q57 : N2.i 57 k = 119 := by rw [hN2, si_i, if_pos ⟨rfl, rfl⟩]
    have hnum : x_number 2 N2 = _ := xp_number (d := 2) X2 q17 (show p + 1 + 2 < 1000 by omega) (by omega)
    rw [bde he119, if_neg (by decide), lt_u, ← hN2] at hun0
    have F2 : Fq cjX M N2 := FN.tr (f2.mo (d := cjX) (fun o j w => by unfold cjX; omega))
    by_cases g2 : p + 1 < e ∧ isd (b (p + 1)) = true
    · rw [if_pos g2] at hnum ⊢
      intro hge hok
      have hok' := hok _ _ rfl
      generalize num b e 2 (p + 1) 0 = r at hnum hge hok' ⊢
      obtain ⟨M6, hM6⟩ : ∃ M6, M6 = (Mp N2 r.1).si 58 k (zn r.2) := ⟨_, rfl⟩
      have f6 : Fq (fun o j => (o = 58 ∧ j = k) ∨ (o = 20 ∧ j = 17)) N2 M6 := by
        rw [hM6]; exact Fq.si (c := fun o j => (o = 58 ∧ j = k) ∨ (o = 20 ∧ j = 17)) ((Mp.fq N2 _).mo (fun o j w => Or.inr w)) (Or.inl ⟨rfl, rfl⟩)
      have e58 : M6.i 58 k = zn r.2 := by rw [hM6, si_i, if_pos ⟨rfl, rfl⟩]
      have r99 : r.2 ≤ 99 := by
        rcases hok' with w | w
        · exact w.2
        · have := w.2; have : r.2 ≤ 3 := this; omega
      rw [bde hnum, lt_u, ← hM6, e58, if_neg (Int32.not_lt.mpr (zn_nonneg (by omega)))] at hun0
      refine ⟨M6, F2.tr (f6.mo (d := cjX) (fun o j w => by unfold cjX; omega)), X2.fr f6 (by omega) (fun j => by omega), ?_, hge, Or.inr ⟨_, rfl, hun0, ext _ M6 hok' ?_ ?_ e58 (fun i hi => ⟨?_, ?_⟩)⟩⟩
      · rw [hM6, si_i, if_neg (by omega)]; exact Mp.i17 _ _
      · rw [f6.i _ _ (by omega), f2.i _ _ (by omega)]; exact N47
      · rw [f6.i _ _ (by omega), q57]; rfl
      · rw [f6.i _ _ (by omega), f2.i _ _ (by omega), fN.i _ _ (by omega)]
      · rw [f6.i _ _ (by omega), f2.i _ _ (by omega), fN.i _ _ (by omega)]
    · rw [if_neg g2] at hnum ⊢
      obtain ⟨M6, hM6⟩ : ∃ M6, M6 = N2.si 58 k (-1) := ⟨_, rfl⟩
      have f6 : Fq (fun o j => o = 58) N2 M6 := by rw [hM6]; exact Fq.si (c := fun o j => o = 58) Fq.rf rfl
      have e58 : M6.i 58 k = -1 := by rw [hM6, si_i, if_pos ⟨rfl, rfl⟩]
      rw [bde hnum, lt_u, ← hM6, e58, if_pos (by decide)] at hun0
      exact fun hge hok => ⟨M6, F2.tr (f6.mo (d := cjX) (fun o j w => by unfold cjX; omega)), X2.fr f6 (by omega) (fun j => by omega), (f6.i _ _ (by omega)).trans q17, hge, Or.inl ⟨rfl, hun0⟩⟩
  · rw [if_neg g1] at he119 ⊢
    rw [bde he119, if_pos rfl] at hun0
    have ht := tk8 XN N17 (show p ≤ 1000 by omega)
    by_cases g2 : p < e ∧ 97 ≤ b p ∧ b p < 101
    · rw [if_pos g2] at ht ⊢
      obtain ⟨N2, hN2⟩ : ∃ N2, N2 = (Mp N (p + 1)).si 58 k (zn (b p - 97)) := ⟨_, rfl⟩
      have f2 : Fq (fun o j => (o = 58 ∧ j = k) ∨ (o = 20 ∧ j = 17)) N N2 := by
        rw [hN2]; exact Fq.si (c := fun o j => (o = 58 ∧ j = k) ∨ (o = 20 ∧ j = 17)) ((Mp.fq N _).mo (fun o j w => Or.inr w)) (Or.inl ⟨rfl, rfl⟩)
      have X2 : XP b e N2 := XN.fr f2 (by omega) (fun j => by omega)
      have q17 : N2.i 20 17 = zn (p + 1) := by rw [hN2, si_i, if_neg (by omega)]; exact Mp.i17 N _
      have q58 : N2.i 58 k = zn (b p - 97) := by rw [hN2, si_i, if_pos ⟨rfl, rfl⟩]
      have F2 : Fq cjX M N2 := FN.tr (f2.mo (d := cjX) (fun o j w => by unfold cjX; omega))
      obtain ⟨a1, a2, a3⟩ := am9 X2 q17 (show p + 1 ≤ 1000 by omega)
      rw [bde ht, lt_u, ← hN2, q58, if_neg (Int32.not_lt.mpr (zn_nonneg (by omega))), bde a1] at hun0
      by_cases g3 : p + 1 < e ∧ isj (b (p + 1)) = true
      · rw [if_pos g3]
        intro hge hok
        have hok' := hok _ _ rfl
        have q39 : N2.i 39 (p + 1) = zn (b (p + 1)) := X2.2.2.1 (p + 1) (by omega)
        obtain ⟨M6, hM6⟩ : ∃ M6, M6 = (N2.si 57 k (zn (b (p + 1)))).si 20 17 (zn (p + 2)) := ⟨_, rfl⟩
        have f6 : Fq (fun o j => (o = 57 ∧ j = k) ∨ (o = 20 ∧ j = 17)) N2 M6 := by
          rw [hM6]; exact Fq.si (c := fun o j => (o = 57 ∧ j = k) ∨ (o = 20 ∧ j = 17)) (Fq.si (c := fun o j => (o = 57 ∧ j = k) ∨ (o = 20 ∧ j = 17)) Fq.rf (Or.inl ⟨rfl, rfl⟩)) (Or.inr ⟨rfl, rfl⟩)
        have z17 : (N2.si 57 k (zn (b (p + 1)))).i 20 17 = zn (p + 1) := by rw [si_i, if_neg (by omega)]; exact q17
        rw [if_pos (a2 g3), q17, ck_zn (by omega) (by omega), ix_zn (by omega), q39, lt_u, z17, zn_addl, lt_u, ← hM6] at hun0
        refine ⟨M6, F2.tr (f6.mo (d := cjX) (fun o j w => by unfold cjX; omega)), X2.fr f6 (by omega) (fun j => by omega), ?_, hge, Or.inr ⟨_, rfl, hun0, ext _ M6 hok' ?_ ?_ ?_ (fun i hi => ⟨?_, ?_⟩)⟩⟩
        · rw [hM6, si_i, if_pos ⟨rfl, rfl⟩]
        · rw [f6.i _ _ (by omega), f2.i _ _ (by omega)]; exact N47
        · rw [hM6, si_i, if_neg (by omega), si_i, if_pos ⟨rfl, rfl⟩]
        · rw [f6.i _ _ (by omega)]; exact q58
        · rw [f6.i _ _ (by omega), f2.i _ _ (by omega), fN.i _ _ (by omega)]
        · rw [f6.i _ _ (by omega), f2.i _ _ (by omega), fN.i _ _ (by omega)]
      · rw [if_neg g3]
        rw [if_neg (a3 g3)] at hun0
        exact fun hge hok => ⟨N2, F2, X2, q17, hge, Or.inl ⟨rfl, hun0⟩⟩
    · rw [if_neg g2] at ht ⊢
      obtain ⟨N2, hN2⟩ : ∃ N2, N2 = N.si 58 k (-1) := ⟨_, rfl⟩
      have f2 : Fq (fun o j => o = 58) N N2 := by rw [hN2]; exact Fq.si (c := fun o j => o = 58) Fq.rf rfl
      have e58 : N2.i 58 k = -1 := by rw [hN2, si_i, if_pos ⟨rfl, rfl⟩]
      rw [bde ht, lt_u, ← hN2, e58, if_pos (by decide)] at hun0
      exact fun hge hok => ⟨N2, FN.tr (f2.mo (d := cjX) (fun o j w => by unfold cjX; omega)), XN.fr f2 (by omega) (fun j => by omega), (f2.i _ _ (by omega)).trans N17, hge, Or.inl ⟨rfl, hun0⟩⟩
end
