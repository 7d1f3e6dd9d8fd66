set_option maxRecDepth 100000
/-! ERRANDS, line by line -/
abbrev DE : Type := Nat × Nat × Nat × Nat
def lnE (b : Nat → Nat) (e nt ns n0 k p : Nat) : Nat × Option DE :=
  if n0 + k = 8 then (p, none) else if p < e ∧ 97 ≤ b p ∧ b p < 97 + nt then
    (if p + 1 < e ∧ isd (b (p + 1)) = true then (if p + 2 < e ∧ 48 ≤ b (p + 2) ∧ b (p + 2) < 48 + ns then (if p + 3 < e ∧ b (p + 3) = 61 then (if p + 4 < e ∧ isd (b (p + 4)) = true then ((num b e 2 (p + 4) 0).1, some (b p - 97, b (p + 1) - 48, b (p + 2) - 48, (num b e 2 (p + 4) 0).2)) else (p + 4, none)) else (p + 3, none)) else (p + 2, none)) else (p + 1, none))
  else (p, none)
theorem num2 (b : Nat → Nat) (e p : Nat) (hp : p ≤ e) : p ≤ (num b e 2 p 0).1 ∧ (num b e 2 p 0).1 ≤ e ∧ (num b e 2 p 0).2 ≤ 99 := by
  obtain ⟨h1, h2⟩ := num_ge b e 2 p 0
  have h3 := num_lt b e 2 p 0 1 (by omega)
  refine ⟨h1, ?_, by omega⟩
  rcases h2 with h2 | h2 <;> omega
def okE (nt ns : Nat) (d : DE) : Prop := d.1 < nt ∧ d.2.1 ≤ 9 ∧ d.2.2.1 < ns ∧ d.2.2.2 ≤ 99
theorem lnE_ge (b : Nat → Nat) (e nt ns n0 k p : Nat) (hp : p ≤ e) : p ≤ (lnE b e nt ns n0 k p).1 ∧ (lnE b e nt ns n0 k p).1 ≤ e := by
  unfold lnE
  by_cases g1 : n0 + k = 8
  · rw [if_pos g1]; exact ⟨Nat.le_refl _, hp⟩
  · rw [if_neg g1]
    by_cases g2 : p < e ∧ 97 ≤ b p ∧ b p < 97 + nt
    · rw [if_pos g2]
      by_cases g3 : p + 1 < e ∧ isd (b (p + 1)) = true
      · rw [if_pos g3]
        by_cases g4 : p + 2 < e ∧ 48 ≤ b (p + 2) ∧ b (p + 2) < 48 + ns
        · rw [if_pos g4]
          by_cases g5 : p + 3 < e ∧ b (p + 3) = 61
          · rw [if_pos g5]
            by_cases g6 : p + 4 < e ∧ isd (b (p + 4)) = true
            · rw [if_pos g6]
              obtain ⟨h1, h2, h3⟩ := num2 b e (p + 4) (by omega)
              exact ⟨by show p ≤ (num b e 2 (p + 4) 0).1; omega, h2⟩
            · rw [if_neg g6]; exact ⟨by show p ≤ p + 4; omega, by show p + 4 ≤ e; omega⟩
          · rw [if_neg g5]; exact ⟨by show p ≤ p + 3; omega, by show p + 3 ≤ e; omega⟩
        · rw [if_neg g4]; exact ⟨by show p ≤ p + 2; omega, by show p + 2 ≤ e; omega⟩
      · rw [if_neg g3]; exact ⟨by show p ≤ p + 1; omega, by show p + 1 ≤ e; omega⟩
    · rw [if_neg g2]; exact ⟨Nat.le_refl _, hp⟩
theorem lnE_ok {b : Nat → Nat} {e nt ns n0 k p q : Nat} {d : DE} (h : lnE b e nt ns n0 k p = (q, some d)) : n0 + k ≠ 8 ∧ okE nt ns d := by
  unfold lnE at h
  by_cases g1 : n0 + k = 8
  · rw [if_pos g1] at h; cases h
  · rw [if_neg g1] at h
    refine ⟨g1, ?_⟩
    by_cases g2 : p < e ∧ 97 ≤ b p ∧ b p < 97 + nt
    · rw [if_pos g2] at h
      by_cases g3 : p + 1 < e ∧ isd (b (p + 1)) = true
      · rw [if_pos g3] at h
        by_cases g4 : p + 2 < e ∧ 48 ≤ b (p + 2) ∧ b (p + 2) < 48 + ns
        · rw [if_pos g4] at h
          by_cases g5 : p + 3 < e ∧ b (p + 3) = 61
          · rw [if_pos g5] at h
            by_cases g6 : p + 4 < e ∧ isd (b (p + 4)) = true
            · rw [if_pos g6] at h
              obtain ⟨h1, h2, h3⟩ := num2 b e (p + 4) (by omega)
              have hd := isd_iff.mp g3.2
              cases h
              exact ⟨by show b p - 97 < nt; omega, by show b (p + 1) - 48 ≤ 9; omega, by show b (p + 2) - 48 < ns; omega, h3⟩
            · rw [if_neg g6] at h; cases h
          · rw [if_neg g5] at h; cases h
        · rw [if_neg g4] at h; cases h
      · rw [if_neg g3] at h; cases h
    · rw [if_neg g2] at h; cases h
def xiE (nt ns n0 k : Nat) (F : Nat → DE) (M : PM) : Prop := n0 + k ≤ 8 ∧ (M.i 20 12 = zn nt ∧ M.i 20 10 = zn ns) ∧ M.i 20 24 = zn (n0 + k) ∧ ∀ i, i < k → okE nt ns (F i) ∧ M.i 46 (n0 + i) = zn (F i).1 ∧ M.i 47 (n0 + i) = zn (F i).2.1 ∧ M.i 48 (n0 + i) = zn (F i).2.2.1 ∧ M.i 49 (n0 + i) = zn (F i).2.2.2
abbrev ceX (o j : Nat) : Prop := (46 ≤ o ∧ o ≤ 49) ∨ (o = 20 ∧ (j = 17 ∨ j = 24))
theorem inTr {x nt : Nat} (hx : x < 1000) (hn : nt < 1000) : (0 ≤ zn x ∧ zn x ≤ zn nt - 1) = (x < nt) := by
  apply propext
  rcases Nat.eq_zero_or_pos nt with e | e
  · subst e
    rw [show zn 0 - 1 = (-1 : Int32) from by decide]
    constructor
    · intro w
      have := w.2
      rw [zn_le_m (by omega)] at this
      exact this.elim
    · intro w; omega
  · rw [show zn nt - 1 = zn (nt - 1) from zn_subl (n := 1) e, zn_le (by omega) (by omega)]
    constructor
    · intro w; omega
    · intro w; exact ⟨zn_nonneg (by omega), by omega⟩
section
variable {M M1 : PM} {b : Nat → Nat} {e p n0 k nt ns : Nat} {F : Nat → DE}
theorem xs_readsE (he : e ≤ 80) (hnt : nt ≤ 4) (h1 : 1 ≤ ns) (h6 : ns ≤ 6) (hp : p ≤ e) (hX : XP b e M) (h17 : M.i 20 17 = zn p) (hI : xiE nt ns n0 k F M) : ∃ M', Fq ceX M M' ∧ XP b e M' ∧ M'.i 20 17 = zn (lnE b e nt ns n0 k p).1 ∧ (p ≤ (lnE b e nt ns n0 k p).1 ∧ (lnE b e nt ns n0 k p).1 ≤ e) ∧ (((lnE b e nt ns n0 k p).2 = none ∧ x_readsErrand M = some (0, M')) ∨ ∃ d, (lnE b e nt ns n0 k p).2 = some d ∧ x_readsErrand M = some (1, M') ∧ xiE nt ns n0 (k + 1) (exF F k d) M') := by
  obtain ⟨i0, ⟨it, is⟩, i1, i2⟩ := hI
  have hge := lnE_ge b e nt ns n0 k p hp
  have hb := hX.2.2.2.1
  revert hge
  unfold lnE
  by_cases g1 : n0 + k = 8
  · rw [if_pos g1]
    intro hge
    refine ⟨M, Fq.rf, hX, h17, hge, Or.inl ⟨rfl, ?_⟩⟩
    unfold x_readsErrand
    rw [i1, lt_u, if_pos (by rw [g1]; rfl)]
  · rw [if_neg g1]
    have n8 : ¬ zn (n0 + k) = 8 := by rw [zn_eq_l (by omega) (by omega)]; exact g1
    have ha := am2 hX h17 (show p ≤ 1000 by omega)
    have ht := tk2 hX h17 (show p ≤ 1000 by omega)
    have hun : x_readsErrand M = (bd (x_in (Int32.toInt64 (if p < e ∧ isaz (b p) = true then zn (b p - 97) else -1)) 0 (Int32.toInt64 (zn nt - 1)) M) fun v3 M2 => jn (fun (v4 : Int32) (M3 : PM) => lt (M3.si 46 (n0 + k) v4) fun M4 => if 0 ≤ (M4.i 46 (n0 + k)) then (bd (x_takesOf 1 M4) fun v5 M5 => lt (M5.si 47 (n0 + k) v5) fun M6 => if 0 ≤ (M6.i 47 (n0 + k)) then (bd (x_readsStation M6) fun v6 M7 => lt (M7.si 48 (n0 + k) v6) fun M8 => if (M8.i 48 (n0 + k)) < 0 then (some (0, M8)) else (bd (x_eats 61 M8) fun v7 M9 => if v7 = 0 then (some (0, M9)) else (bd (x_number 2 M9) fun v8 M10 => lt (M10.si 49 (n0 + k) v8) fun M11 => lt (M11.si 20 24 ((M11.i 20 24) + 1)) fun M12 => if (M12.i 49 (n0 + k)) < 0 then (some (0, M12)) else (some (1, M12))))) else (some (0, M6))) else (some (0, M4))) fun j1 => if v3 = 0 then (j1 (-1) M2) else (bd (x_takesOf 2 M2) fun v9 M13 => j1 v9 M13)) := by
      unfold x_readsErrand
      rw [i1, lt_u, if_neg n8, bde ha, it]
      simp (disch := omega) only [ck_zn, ix_zn]
    rw [x_in0] at hun
    simp only [jn_u] at hun
    by_cases g2 : p < e ∧ 97 ≤ b p ∧ b p < 97 + nt
    · have gaz : p < e ∧ isaz (b p) = true := ⟨g2.1, isaz_iff.mpr ⟨by omega, by omega⟩⟩
      rw [if_pos gaz] at hun ht
      rw [if_pos (show 0 ≤ zn (b p - 97) ∧ zn (b p - 97) ≤ zn nt - 1 by rw [inTr (by omega) (by omega)]; omega), bd_s, if_neg (by decide), bde ht, lt_u] at hun
      rw [if_pos g2]
      obtain ⟨N, hN⟩ : ∃ N, N = (Mp M (p + 1)).si 46 (n0 + k) (zn (b p - 97)) := ⟨_, rfl⟩
      have fN : Fq (fun o x => (o = 46 ∧ x = n0 + k) ∨ (o = 20 ∧ x = 17)) M N := by
        rw [hN]
        exact Fq.si (c := fun o x => (o = 46 ∧ x = n0 + k) ∨ (o = 20 ∧ x = 17)) ((Mp.fq M (p + 1)).mo (fun o x w => Or.inr w)) (Or.inl ⟨rfl, rfl⟩)
      have XN := hX.fr fN (by omega) (fun x => by omega)
      have N17 : N.i 20 17 = zn (p + 1) := by rw [hN, si_i, if_neg (by omega)]; exact Mp.i17 M (p + 1)
      have N46 : N.i 46 (n0 + k) = zn (b p - 97) := by rw [hN, si_i, if_pos ⟨rfl, rfl⟩]
      have FN : Fq ceX M N := fN.mo (d := ceX) (fun o x w => by unfold ceX; omega)
      rw [← hN, N46, if_pos (zn_nonneg (by omega))] at hun
      have ht1 := tk1 XN N17 (show p + 1 ≤ 1000 by omega)
      by_cases g3 : p + 1 < e ∧ isd (b (p + 1)) = true
      · have hd1 := isd_iff.mp g3.2
        rw [if_pos g3] at ht1 ⊢
        rw [bde ht1, lt_u] at hun
        obtain ⟨N2, hN2⟩ : ∃ N2, N2 = (Mp N (p + 1 + 1)).si 47 (n0 + k) (zn (b (p + 1) - 48)) := ⟨_, rfl⟩
        have fN2 : Fq (fun o x => (o = 47 ∧ x = n0 + k) ∨ (o = 20 ∧ x = 17)) N N2 := by
          rw [hN2]
          exact Fq.si (c := fun o x => (o = 47 ∧ x = n0 + k) ∨ (o = 20 ∧ x = 17)) ((Mp.fq N _).mo (fun o x w => Or.inr w)) (Or.inl ⟨rfl, rfl⟩)
        have XN2 := XN.fr fN2 (by omega) (fun x => by omega)
        have N217 : N2.i 20 17 = zn (p + 2) := by rw [hN2, si_i, if_neg (by omega)]; exact Mp.i17 N _
        have N247 : N2.i 47 (n0 + k) = zn (b (p + 1) - 48) := by rw [hN2, si_i, if_pos ⟨rfl, rfl⟩]
        have FN2 : Fq ceX M N2 := FN.tr (fN2.mo (d := ceX) (fun o x w => by unfold ceX; omega))
        rw [← hN2, N247, if_pos (zn_nonneg (by omega))] at hun
        have ht2 := xs_rdSt XN2 N217 (show p + 2 ≤ 1000 by omega) (by rw [fN2.i _ _ (by omega), fN.i _ _ (by omega)]; exact is) h1 h6
        by_cases g4 : p + 2 < e ∧ 48 ≤ b (p + 2) ∧ b (p + 2) < 48 + ns
        · rw [if_pos g4] at ht2 ⊢
          rw [bde ht2, lt_u] at hun
          obtain ⟨N3, hN3⟩ : ∃ N3, N3 = (Mp N2 (p + 2 + 1)).si 48 (n0 + k) (zn (b (p + 2) - 48)) := ⟨_, rfl⟩
          have fN3 : Fq (fun o x => (o = 48 ∧ x = n0 + k) ∨ (o = 20 ∧ x = 17)) N2 N3 := by
            rw [hN3]
            exact Fq.si (c := fun o x => (o = 48 ∧ x = n0 + k) ∨ (o = 20 ∧ x = 17)) ((Mp.fq N2 _).mo (fun o x w => Or.inr w)) (Or.inl ⟨rfl, rfl⟩)
          have XN3 := XN2.fr fN3 (by omega) (fun x => by omega)
          have N317 : N3.i 20 17 = zn (p + 3) := by rw [hN3, si_i, if_neg (by omega)]; exact Mp.i17 N2 _
          have N348 : N3.i 48 (n0 + k) = zn (b (p + 2) - 48) := by rw [hN3, si_i, if_pos ⟨rfl, rfl⟩]
          have FN3 : Fq ceX M N3 := FN2.tr (fN3.mo (d := ceX) (fun o x w => by unfold ceX; omega))
          rw [← hN3, N348, if_neg (Int32.not_lt.mpr (zn_nonneg (by omega)))] at hun
          have he61 : x_eats 61 N3 = _ := xp_eats (d := 61) XN3 N317 (show p + 3 ≤ 1000 by omega) (by omega)
          by_cases g5 : p + 3 < e ∧ b (p + 3) = 61
          · rw [if_pos g5] at he61 ⊢
            rw [bde he61, if_neg (by decide)] at hun
            have fP : Fq (fun o x => o = 20 ∧ x = 17) N3 (Mp N3 (p + 3 + 1)) := Mp.fq N3 _
            have hnum : x_number 2 (Mp N3 (p + 3 + 1)) = _ := xp_number (d := 2) (XN3.mp (p + 3 + 1)) (Mp.i17 N3 _) (show p + 3 + 1 + 2 < 1000 by omega) (by omega)
            rw [show p + 3 + 1 = p + 4 from rfl] at hnum fP hun
            have i24 : (Mp N3 (p + 4)).i 20 24 = zn (n0 + k) := by rw [fP.i _ _ (by omega), fN3.i _ _ (by omega), fN2.i _ _ (by omega), fN.i _ _ (by omega)]; exact i1
            by_cases g6 : p + 4 < e ∧ isd (b (p + 4)) = true
            · rw [if_pos g6] at hnum ⊢
              obtain ⟨m1, m2, m3⟩ := num2 b e (p + 4) (by omega)
              intro hge
              generalize num b e 2 (p + 4) 0 = r at hnum m1 m2 m3 hge ⊢
              obtain ⟨M6, hM6⟩ : ∃ M6, M6 = ((Mp (Mp N3 (p + 4)) r.1).si 49 (n0 + k) (zn r.2)).si 20 24 (zn (n0 + k + 1)) := ⟨_, rfl⟩
              have fQ : Fq (fun o x => o = 20 ∧ x = 17) N3 (Mp (Mp N3 (p + 4)) r.1) := fP.tr (Mp.fq _ _)
              have f6 : Fq (fun o x => (o = 49 ∧ x = n0 + k) ∨ (o = 20 ∧ (x = 17 ∨ x = 24))) N3 M6 := by
                rw [hM6]
                exact Fq.si (c := fun o x => (o = 49 ∧ x = n0 + k) ∨ (o = 20 ∧ (x = 17 ∨ x = 24))) (Fq.si (c := fun o x => (o = 49 ∧ x = n0 + k) ∨ (o = 20 ∧ (x = 17 ∨ x = 24))) (fQ.mo (fun o x w => Or.inr ⟨w.1, Or.inl w.2⟩)) (Or.inl ⟨rfl, rfl⟩)) (Or.inr ⟨rfl, Or.inr rfl⟩)
              have e24 : ((Mp (Mp N3 (p + 4)) r.1).si 49 (n0 + k) (zn r.2)).i 20 24 = zn (n0 + k) := by rw [si_i, if_neg (by omega), (Mp.fq _ _).i _ _ (by omega)]; exact i24
              have e49 : M6.i 49 (n0 + k) = zn r.2 := by rw [hM6, si_i, if_neg (by omega), si_i, if_pos ⟨rfl, rfl⟩]
              rw [bde hnum, lt_u, e24, zn_addl, lt_u, ← hM6, e49, if_neg (Int32.not_lt.mpr (zn_nonneg (by omega)))] at hun
              refine ⟨M6, FN3.tr (f6.mo (d := ceX) (fun o x w => by unfold ceX; omega)), XN3.fr f6 (by omega) (fun x => by omega), ?_, hge, Or.inr ⟨_, rfl, hun, by omega, ⟨?_, ?_⟩, ?_, fun i hi => ?_⟩⟩
              · rw [hM6, si_i, if_neg (by omega), si_i, if_neg (by omega)]; exact Mp.i17 _ _
              · rw [f6.i _ _ (by omega), fN3.i _ _ (by omega), fN2.i _ _ (by omega), fN.i _ _ (by omega)]; exact it
              · rw [f6.i _ _ (by omega), fN3.i _ _ (by omega), fN2.i _ _ (by omega), fN.i _ _ (by omega)]; exact is
              · rw [hM6, si_i, if_pos ⟨rfl, rfl⟩]; rfl
              · unfold exF
                by_cases ei : i = k
                · rw [if_pos ei, ei]
                  refine ⟨⟨by show b p - 97 < nt; omega, by show b (p + 1) - 48 ≤ 9; omega, by show b (p + 2) - 48 < ns; omega, m3⟩, ?_, ?_, ?_, e49⟩
                  · rw [f6.i _ _ (by omega), fN3.i _ _ (by omega), fN2.i _ _ (by omega)]; exact N46
                  · rw [f6.i _ _ (by omega), fN3.i _ _ (by omega)]; exact N247
                  · rw [f6.i _ _ (by omega)]; exact N348
                · rw [if_neg ei]
                  obtain ⟨w1, w2, w3, w4, w5⟩ := i2 i (by omega)
                  refine ⟨w1, ?_, ?_, ?_, ?_⟩
                  · rw [f6.i _ _ (by omega), fN3.i _ _ (by omega), fN2.i _ _ (by omega), fN.i _ _ (by omega)]; exact w2
                  · rw [f6.i _ _ (by omega), fN3.i _ _ (by omega), fN2.i _ _ (by omega), fN.i _ _ (by omega)]; exact w3
                  · rw [f6.i _ _ (by omega), fN3.i _ _ (by omega), fN2.i _ _ (by omega), fN.i _ _ (by omega)]; exact w4
                  · rw [f6.i _ _ (by omega), fN3.i _ _ (by omega), fN2.i _ _ (by omega), fN.i _ _ (by omega)]; exact w5
            · rw [if_neg g6] at hnum ⊢
              intro hge
              obtain ⟨M6, hM6⟩ : ∃ M6, M6 = ((Mp N3 (p + 4)).si 49 (n0 + k) (-1)).si 20 24 (zn (n0 + k + 1)) := ⟨_, rfl⟩
              have f6 : Fq (fun o x => (o = 49 ∧ x = n0 + k) ∨ (o = 20 ∧ (x = 17 ∨ x = 24))) N3 M6 := by
                rw [hM6]
                exact Fq.si (c := fun o x => (o = 49 ∧ x = n0 + k) ∨ (o = 20 ∧ (x = 17 ∨ x = 24))) (Fq.si (c := fun o x => (o = 49 ∧ x = n0 + k) ∨ (o = 20 ∧ (x = 17 ∨ x = 24))) (fP.mo (fun o x w => Or.inr ⟨w.1, Or.inl w.2⟩)) (Or.inl ⟨rfl, rfl⟩)) (Or.inr ⟨rfl, Or.inr rfl⟩)
              have e24 : ((Mp N3 (p + 4)).si 49 (n0 + k) (-1)).i 20 24 = zn (n0 + k) := by rw [si_i, if_neg (by omega)]; exact i24
              have e49 : M6.i 49 (n0 + k) = -1 := by rw [hM6, si_i, if_neg (by omega), si_i, if_pos ⟨rfl, rfl⟩]
              rw [bde hnum, lt_u, e24, zn_addl, lt_u, ← hM6, e49, if_pos (by decide)] at hun
              refine ⟨M6, FN3.tr (f6.mo (d := ceX) (fun o x w => by unfold ceX; omega)), XN3.fr f6 (by omega) (fun x => by omega), ?_, hge, Or.inl ⟨rfl, hun⟩⟩
              rw [hM6, si_i, if_neg (by omega), si_i, if_neg (by omega)]; exact Mp.i17 _ _
          · rw [if_neg g5] at he61 ⊢
            rw [bde he61, if_pos rfl] at hun
            exact fun hge => ⟨N3, FN3, XN3, N317, hge, Or.inl ⟨rfl, hun⟩⟩
        · rw [if_neg g4] at ht2 ⊢
          rw [bde ht2, lt_u] at hun
          obtain ⟨N3, hN3⟩ : ∃ N3, N3 = N2.si 48 (n0 + k) (-1) := ⟨_, rfl⟩
          have fN3 : Fq (fun o x => o = 48) N2 N3 := by rw [hN3]; exact Fq.si (c := fun o x => o = 48) Fq.rf rfl
          have N348 : N3.i 48 (n0 + k) = -1 := by rw [hN3, si_i, if_pos ⟨rfl, rfl⟩]
          rw [← hN3, N348, if_pos (by decide)] at hun
          exact fun hge => ⟨N3, FN2.tr (fN3.mo (d := ceX) (fun o x w => by unfold ceX; omega)), XN2.fr fN3 (by omega) (fun x => by omega), (fN3.i _ _ (by omega)).trans N217, hge, Or.inl ⟨rfl, hun⟩⟩
      · rw [if_neg g3] at ht1 ⊢
        rw [bde ht1, lt_u] at hun
        obtain ⟨N2, hN2⟩ : ∃ N2, N2 = N.si 47 (n0 + k) (-1) := ⟨_, rfl⟩
        have fN2 : Fq (fun o x => o = 47) N N2 := by rw [hN2]; exact Fq.si (c := fun o x => o = 47) Fq.rf rfl
        have N247 : N2.i 47 (n0 + k) = -1 := by rw [hN2, si_i, if_pos ⟨rfl, rfl⟩]
        rw [← hN2, N247, if_neg (by decide)] at hun
        exact fun hge => ⟨N2, FN.tr (fN2.mo (d := ceX) (fun o x w => by unfold ceX; omega)), XN.fr fN2 (by omega) (fun x => by omega), (fN2.i _ _ (by omega)).trans N17, hge, Or.inl ⟨rfl, hun⟩⟩
    · rw [if_neg g2]
      have hno : ¬ (0 ≤ (if p < e ∧ isaz (b p) = true then zn (b p - 97) else (-1 : Int32)) ∧ (if p < e ∧ isaz (b p) = true then zn (b p - 97) else (-1 : Int32)) ≤ zn nt - 1) := by
        by_cases gaz : p < e ∧ isaz (b p) = true
        · have := isaz_iff.mp gaz.2
          rw [if_pos gaz, inTr (by omega) (by omega)]
          intro w
          exact g2 ⟨gaz.1, this.1, by omega⟩
        · rw [if_neg gaz]
          exact fun w => absurd w.1 (by decide)
      rw [if_neg hno, bd_s, if_pos rfl, lt_u] at hun
      obtain ⟨N, hN⟩ : ∃ N, N = M.si 46 (n0 + k) (-1) := ⟨_, rfl⟩
      have fN : Fq (fun o x => o = 46) M N := by rw [hN]; exact Fq.si (c := fun o x => o = 46) Fq.rf rfl
      have N46 : N.i 46 (n0 + k) = -1 := by rw [hN, si_i, if_pos ⟨rfl, rfl⟩]
      rw [← hN, N46, if_neg (by decide)] at hun
      exact fun hge => ⟨N, fN.mo (d := ceX) (fun o x w => by unfold ceX; omega), hX.fr fN (by omega) (fun x => by omega), (fN.i _ _ (by omega)).trans h17, hge, Or.inl ⟨rfl, hun⟩⟩
end
