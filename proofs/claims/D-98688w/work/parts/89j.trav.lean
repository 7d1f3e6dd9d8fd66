set_option maxRecDepth 100000
/-! TRAVELLERS, line by line -/
theorem bd_bd {α β γ : Type} (x : Option (α × PM)) (f : α → PM → Option (β × PM)) (g : β → PM → Option γ) : bd (bd x f) g = bd x (fun a M => bd (f a M) g) := by cases x <;> rfl
theorem bd_ck {β γ : Type} (i : Int32) (n : Nat) (x : Option (β × PM)) (g : β → PM → Option γ) : bd (ck i n x) g = ck i n (bd x g) := by
  unfold ck
  split <;> rfl
abbrev DT : Type := Nat × Nat
def lnT (b : Nat → Nat) (e ns n0 k p : Nat) : Nat × Option DT :=
  if n0 + k = 4 then (p, none) else if p < e ∧ 48 ≤ b p ∧ b p < 48 + ns then
    (if p + 1 < e ∧ b (p + 1) = 58 then (if p + 2 < e ∧ isd (b (p + 2)) = true then ((num b e 3 (p + 2) 0).1, some (b p - 48, (num b e 3 (p + 2) 0).2)) else (p + 2, none)) else (p + 1, none))
  else (p, none)
theorem num3 (b : Nat → Nat) (e p : Nat) (hp : p ≤ e) : p ≤ (num b e 3 p 0).1 ∧ (num b e 3 p 0).1 ≤ e ∧ (num b e 3 p 0).2 ≤ 999 := by
  obtain ⟨h1, h2⟩ := num_ge b e 3 p 0
  have h3 := num_lt b e 3 p 0 1 (by omega)
  refine ⟨h1, ?_, by omega⟩
  rcases h2 with h2 | h2 <;> omega
theorem lnT_ge (b : Nat → Nat) (e ns n0 k p : Nat) (hp : p ≤ e) : p ≤ (lnT b e ns n0 k p).1 ∧ (lnT b e ns n0 k p).1 ≤ e := by
  unfold lnT
  by_cases g1 : n0 + k = 4
  · rw [if_pos g1]; exact ⟨Nat.le_refl _, hp⟩
  · rw [if_neg g1]
    by_cases g2 : p < e ∧ 48 ≤ b p ∧ b p < 48 + ns
    · rw [if_pos g2]
      by_cases g3 : p + 1 < e ∧ b (p + 1) = 58
      · rw [if_pos g3]
        by_cases g4 : p + 2 < e ∧ isd (b (p + 2)) = true
        · rw [if_pos g4]
          obtain ⟨h1, h2, h3⟩ := num3 b e (p + 2) (by omega)
          exact ⟨by show p ≤ (num b e 3 (p + 2) 0).1; omega, h2⟩
        · rw [if_neg g4]; exact ⟨by show p ≤ p + 2; omega, by show p + 2 ≤ e; omega⟩
      · rw [if_neg g3]; exact ⟨by show p ≤ p + 1; omega, by show p + 1 ≤ e; omega⟩
    · rw [if_neg g2]; exact ⟨Nat.le_refl _, hp⟩
def okT (ns : Nat) (d : DT) : Prop := d.1 < ns ∧ d.2 ≤ 999
theorem lnT_ok {b : Nat → Nat} {e ns n0 k p q : Nat} {d : DT} (h : lnT b e ns n0 k p = (q, some d)) : n0 + k ≠ 4 ∧ okT ns d := by
  unfold lnT at h
  by_cases g1 : n0 + k = 4
  · rw [if_pos g1] at h; cases h
  · rw [if_neg g1] at h
    refine ⟨g1, ?_⟩
    by_cases g2 : p < e ∧ 48 ≤ b p ∧ b p < 48 + ns
    · rw [if_pos g2] at h
      by_cases g3 : p + 1 < e ∧ b (p + 1) = 58
      · rw [if_pos g3] at h
        by_cases g4 : p + 2 < e ∧ isd (b (p + 2)) = true
        · rw [if_pos g4] at h
          obtain ⟨h1, h2, h3⟩ := num3 b e (p + 2) (by omega)
          cases h
          exact ⟨by show b p - 48 < ns; omega, h3⟩
        · rw [if_neg g4] at h; cases h
      · rw [if_neg g3] at h; cases h
    · rw [if_neg g2] at h; cases h
def xiT (ns n0 k : Nat) (F : Nat → DT) (M : PM) : Prop := n0 + k ≤ 4 ∧ M.i 20 10 = zn ns ∧ M.i 20 24 = zn (n0 + k) ∧ ∀ i, i < k → okT ns (F i) ∧ M.i 44 (n0 + i) = zn (F i).1 ∧ M.i 45 (n0 + i) = zn (F i).2
abbrev ctX (o j : Nat) : Prop := (44 ≤ o ∧ o ≤ 45) ∨ (o = 20 ∧ (j = 17 ∨ j = 24))
def yiT (ns n0 k : Nat) (F : Nat → DT) (M : PM) : Prop := n0 + k ≤ 4 ∧ M.i 72 1 = zn ns ∧ M.i 72 6 = zn n0 ∧ ∀ i, i < k → okT ns (F i) ∧ M.i 82 (2 * i) = zn (F i).1 ∧ M.i 82 (2 * i + 1) = zn (F i).2
section
variable {M M1 : PM} {b : Nat → Nat} {e p n0 k ns : Nat} {F : Nat → DT}
theorem xs_rdSt (h : XP b e M) (h17 : M.i 20 17 = zn p) (hp : p ≤ 1000) (hs : M.i 20 10 = zn ns) (h1 : 1 ≤ ns) (h6 : ns ≤ 6) : x_readsStation M = if p < e ∧ 48 ≤ b p ∧ b p < 48 + ns then some (zn (b p - 48), Mp M (p + 1)) else some (-1, M) := by
  have hb := h.2.2.2.1 p
  have ht := tk1 h h17 hp
  have e1 : zn ns - 1 = zn (ns - 1) := zn_subl (n := 1) h1
  have ha : x_among 1 M = some (if p < e ∧ isd (b p) = true then zn (b p - 48) else -1, M) := by
    rw [xp_among h h17 hp (Or.inl rfl)]
    unfold amv
    by_cases g : p < e
    · rw [if_pos g, idx_1 _ hb]
      by_cases g2 : isd (b p) = true
      · rw [if_pos g2, if_pos ⟨g, g2⟩]
      · rw [if_neg g2, if_neg (fun w => g2 w.2)]
    · rw [if_neg g, if_neg (fun w => g w.1)]
  unfold x_readsStation
  rw [bde ha, hs, e1]
  by_cases g : p < e ∧ isd (b p) = true
  · have hd := isd_iff.mp g.2
    rw [if_pos g] at ht ⊢
    by_cases g2 : b p < 48 + ns
    · rw [bde (xt_in (show b p - 48 ≤ ns - 1 by omega) (by omega) M), if_neg (by decide), bde ht, if_pos ⟨g.1, hd.1, g2⟩]
    · rw [bde (xn_in (p := zn (b p - 48)) (n := ns - 1) (by rw [zn_le (by omega) (by omega)]; omega) M), if_pos rfl, if_neg (fun w => g2 w.2.2)]
  · rw [if_neg g, bde (xn_in (p := -1) (n := ns - 1) (fun w => absurd w.1 (by decide)) M), if_pos rfl, if_neg (fun w => g ⟨w.1, isd_iff.mpr (by omega)⟩)]
theorem xs_readsT (he : e ≤ 80) (h1 : 1 ≤ ns) (h6 : ns ≤ 6) (hp : p ≤ e) (hX : XP b e M) (h17 : M.i 20 17 = zn p) (hI : xiT ns n0 k F M) : ∃ M', Fq ctX M M' ∧ XP b e M' ∧ M'.i 20 17 = zn (lnT b e ns n0 k p).1 ∧ (p ≤ (lnT b e ns n0 k p).1 ∧ (lnT b e ns n0 k p).1 ≤ e) ∧ (((lnT b e ns n0 k p).2 = none ∧ x_readsTraveller M = some (0, M')) ∨ ∃ d, (lnT b e ns n0 k p).2 = some d ∧ x_readsTraveller M = some (1, M') ∧ xiT ns n0 (k + 1) (exF F k d) M') := by
  obtain ⟨i0, is, i1, i2⟩ := hI
  have hge := lnT_ge b e ns n0 k p hp
  revert hge
  unfold lnT
  by_cases g1 : n0 + k = 4
  · rw [if_pos g1]
    intro hge
    refine ⟨M, Fq.rf, hX, h17, hge, Or.inl ⟨rfl, ?_⟩⟩
    unfold x_readsTraveller
    rw [i1, lt_u, if_pos (by rw [g1]; rfl)]
  · rw [if_neg g1]
    have n10 : ¬ zn (n0 + k) = 4 := by rw [zn_eq_l (by omega) (by omega)]; exact g1
    have ht := xs_rdSt hX h17 (show p ≤ 1000 by omega) is h1 h6
    by_cases g2 : p < e ∧ 48 ≤ b p ∧ b p < 48 + ns
    · rw [if_pos g2]
      rw [if_pos g2] at ht
      obtain ⟨N, hN⟩ : ∃ N, N = (Mp M (p + 1)).si 44 (n0 + k) (zn (b p - 48)) := ⟨_, rfl⟩
      have fN : Fq (fun o x => (o = 44 ∧ x = n0 + k) ∨ (o = 20 ∧ x = 17)) M N := by
        rw [hN]
        exact Fq.si (c := fun o x => (o = 44 ∧ x = n0 + k) ∨ (o = 20 ∧ x = 17)) ((Mp.fq M (p + 1)).mo (fun o x w => Or.inr w)) (Or.inl ⟨rfl, rfl⟩)
      have XN := hX.fr fN (by omega) (fun x => by omega)
      have N17 : N.i 20 17 = zn (p + 1) := by rw [hN, si_i, if_neg (by omega)]; exact Mp.i17 M (p + 1)
      have N44 : N.i 44 (n0 + k) = zn (b p - 48) := by rw [hN, si_i, if_pos ⟨rfl, rfl⟩]
      have he58 : x_eats 58 N = _ := xp_eats (d := 58) XN N17 (show p + 1 ≤ 1000 by omega) (by omega)
      have hun : x_readsTraveller M = (bd (x_eats 58 N) fun v3 M3 => if v3 = 0 then (some (0, M3)) else (bd (x_number 3 M3) fun v4 M4 => lt (M4.si 45 (n0 + k) v4) fun M5 => lt (M5.si 20 24 ((M5.i 20 24) + 1)) fun M6 => if (M6.i 45 (n0 + k)) < 0 then (some (0, M6)) else (some (1, M6)))) := by
        unfold x_readsTraveller
        rw [i1, lt_u, if_neg n10, bde ht]
        simp (disch := omega) only [ck_zn, ix_zn]
        rw [lt_u, ← hN, N44, if_neg (Int32.not_lt.mpr (zn_nonneg (by omega)))]
      have FN : Fq ctX M N := fN.mo (d := ctX) (fun o x w => by unfold ctX; omega)
      by_cases g3 : p + 1 < e ∧ b (p + 1) = 58
      · rw [if_pos g3]
        rw [if_pos g3] at he58
        have fP : Fq (fun o x => o = 20 ∧ x = 17) N (Mp N (p + 1 + 1)) := Mp.fq N _
        have XP2 := XN.mp (p + 1 + 1)
        have hnum : x_number 3 (Mp N (p + 1 + 1)) = _ := xp_number (d := 3) XP2 (Mp.i17 N _) (show p + 1 + 1 + 3 < 1000 by omega) (by omega)
        have i24 : (Mp N (p + 1 + 1)).i 20 24 = zn (n0 + k) := by rw [fP.i _ _ (by omega), fN.i _ _ (by omega)]; exact i1
        by_cases g4 : p + 2 < e ∧ isd (b (p + 2)) = true
        · rw [if_pos g4]
          rw [show p + 1 + 1 = p + 2 from rfl] at hnum i24 fP XP2 he58
          rw [if_pos g4] at hnum
          obtain ⟨m1, m2, m3⟩ := num3 b e (p + 2) (by omega)
          intro hge
          generalize num b e 3 (p + 2) 0 = r at hnum m1 m2 m3 hge ⊢
          obtain ⟨M6, hM6⟩ : ∃ M6, M6 = ((Mp (Mp N (p + 2)) r.1).si 45 (n0 + k) (zn r.2)).si 20 24 (zn (n0 + k + 1)) := ⟨_, rfl⟩
          have fQ : Fq (fun o x => o = 20 ∧ x = 17) N (Mp (Mp N (p + 2)) r.1) := fP.tr (Mp.fq _ _)
          have f6 : Fq (fun o x => (o = 45 ∧ x = n0 + k) ∨ (o = 20 ∧ (x = 17 ∨ x = 24))) N M6 := by
            rw [hM6]
            exact Fq.si (c := fun o x => (o = 45 ∧ x = n0 + k) ∨ (o = 20 ∧ (x = 17 ∨ x = 24))) (Fq.si (c := fun o x => (o = 45 ∧ x = n0 + k) ∨ (o = 20 ∧ (x = 17 ∨ x = 24))) (fQ.mo (fun o x w => Or.inr ⟨w.1, Or.inl w.2⟩)) (Or.inl ⟨rfl, rfl⟩)) (Or.inr ⟨rfl, Or.inr rfl⟩)
          have e24 : ((Mp (Mp N (p + 2)) r.1).si 45 (n0 + k) (zn r.2)).i 20 24 = zn (n0 + k) := by rw [si_i, if_neg (by omega), (Mp.fq _ _).i _ _ (by omega)]; exact i24
          have e45 : M6.i 45 (n0 + k) = zn r.2 := by rw [hM6, si_i, if_neg (by omega), si_i, if_pos ⟨rfl, rfl⟩]
          refine ⟨M6, FN.tr (f6.mo (d := ctX) (fun o x w => by unfold ctX; omega)), XN.fr f6 (by omega) (fun x => by omega), ?_, hge, Or.inr ⟨_, rfl, ?_, by omega, ?_, ?_, fun i hi => ?_⟩⟩
          · rw [hM6, si_i, if_neg (by omega), si_i, if_neg (by omega)]; exact Mp.i17 _ _
          · rw [hun, bde he58, if_neg (by decide), bde hnum, lt_u, e24, zn_addl, lt_u, ← hM6, e45, if_neg (Int32.not_lt.mpr (zn_nonneg (by omega)))]
          · rw [f6.i _ _ (by omega), fN.i _ _ (by omega)]; exact is
          · rw [hM6, si_i, if_pos ⟨rfl, rfl⟩]; rfl
          · unfold exF
            by_cases ei : i = k
            · rw [if_pos ei, ei]
              refine ⟨⟨by show b p - 48 < ns; omega, m3⟩, ?_, e45⟩
              rw [f6.i _ _ (by omega)]; exact N44
            · rw [if_neg ei]
              obtain ⟨w1, w2, w3⟩ := i2 i (by omega)
              refine ⟨w1, ?_, ?_⟩
              · rw [f6.i _ _ (by omega), fN.i _ _ (by omega)]; exact w2
              · rw [f6.i _ _ (by omega), fN.i _ _ (by omega)]; exact w3
        · rw [if_neg g4]
          rw [show p + 1 + 1 = p + 2 from rfl] at hnum i24 fP XP2 he58
          rw [if_neg g4] at hnum
          intro hge
          obtain ⟨M6, hM6⟩ : ∃ M6, M6 = ((Mp N (p + 2)).si 45 (n0 + k) (-1)).si 20 24 (zn (n0 + k + 1)) := ⟨_, rfl⟩
          have f6 : Fq (fun o x => (o = 45 ∧ x = n0 + k) ∨ (o = 20 ∧ (x = 17 ∨ x = 24))) N M6 := by
            rw [hM6]
            exact Fq.si (c := fun o x => (o = 45 ∧ x = n0 + k) ∨ (o = 20 ∧ (x = 17 ∨ x = 24))) (Fq.si (c := fun o x => (o = 45 ∧ x = n0 + k) ∨ (o = 20 ∧ (x = 17 ∨ x = 24))) (fP.mo (fun o x w => Or.inr ⟨w.1, Or.inl w.2⟩)) (Or.inl ⟨rfl, rfl⟩)) (Or.inr ⟨rfl, Or.inr rfl⟩)
          have e24 : ((Mp N (p + 2)).si 45 (n0 + k) (-1)).i 20 24 = zn (n0 + k) := by rw [si_i, if_neg (by omega)]; exact i24
          have e45 : M6.i 45 (n0 + k) = -1 := by rw [hM6, si_i, if_neg (by omega), si_i, if_pos ⟨rfl, rfl⟩]
          refine ⟨M6, FN.tr (f6.mo (d := ctX) (fun o x w => by unfold ctX; omega)), XN.fr f6 (by omega) (fun x => by omega), ?_, hge, Or.inl ⟨rfl, ?_⟩⟩
          · rw [hM6, si_i, if_neg (by omega), si_i, if_neg (by omega)]; exact Mp.i17 _ _
          · rw [hun, bde he58, if_neg (by decide), bde hnum, lt_u, e24, zn_addl, lt_u, ← hM6, e45, if_pos (by decide)]
      · rw [if_neg g3]
        rw [if_neg g3] at he58
        intro hge
        refine ⟨N, FN, XN, N17, hge, Or.inl ⟨rfl, ?_⟩⟩
        rw [hun, bde he58, if_pos rfl]
    · rw [if_neg g2]
      rw [if_neg g2] at ht
      intro hge
      obtain ⟨N, hN⟩ : ∃ N, N = M.si 44 (n0 + k) (-1) := ⟨_, rfl⟩
      have fN : Fq (fun o x => o = 44) M N := by rw [hN]; exact Fq.si (c := fun o x => o = 44) Fq.rf rfl
      have N44 : N.i 44 (n0 + k) = -1 := by rw [hN, si_i, if_pos ⟨rfl, rfl⟩]
      refine ⟨N, fN.mo (d := ctX) (fun o x w => by unfold ctX; omega), hX.fr fN (by omega) (fun x => by omega), (fN.i _ _ (by omega)).trans h17, hge, Or.inl ⟨rfl, ?_⟩⟩
      unfold x_readsTraveller
      rw [i1, lt_u, if_neg n10, bde ht, ck_zn (by omega) (by omega), ix_zn (by omega), lt_u, ← hN, ck_zn (by omega) (by omega), N44, if_pos (by decide)]
end
