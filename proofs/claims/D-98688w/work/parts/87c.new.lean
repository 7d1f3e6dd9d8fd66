set_option maxRecDepth 100000
/-! SOMETHING NEW: nothing can be undone, the count of changes is one more -/
abbrev isn (o j : Nat) : Prop := o = 20 ∧ (j = 43 ∨ j = 14)
abbrev isy (o j : Nat) : Prop := o = 72 ∧ (j = 29 ∨ j = 52)
theorem shR_isn : ∀ q ∈ shR, ¬ isn q.1 q.2.1 := by decide +kernel
theorem shR_isy : ∀ q ∈ shR, ¬ isy q.1 q.2.1 := by decide +kernel
section
variable {c : Nat → Nat → Prop} {C C' : SV} {A A' : Nat → Int32} {M M1 M2 : PM} {nT nT' nU ch a : Nat} {bT bT' : Nat → Nat} {U : Nat → Nat → Int32} {K : Nat → Bool × (Nat → Int32) × Nat} {l l' : List Int64}
theorem CX.w (h : CX C M) (f : Fq c M M1) (hc : ∀ o j, 31 ≤ o → o ≤ 34 → ¬ c o j) : ∀ w, w < C.nw → M1.i 32 w = zn (C.len w) ∧ M1.i 33 w = zn (C.mn w) ∧ M1.i 34 w = C.sc w ∧ ∀ k, k < C.len w → M1.i 31 (6 * w + k) = zn (C.lt w k) := by
  intro w hw
  obtain ⟨g1, g2, g3, g4⟩ := h.2.2.1 w hw
  rw [f.i 32 w (hc _ _ (by omega) (by omega)), f.i 33 w (hc _ _ (by omega) (by omega)), f.i 34 w (hc _ _ (by omega) (by omega))]
  refine ⟨g1, g2, g3, fun k hk => ?_⟩
  rw [f.i 31 _ (hc _ _ (by omega) (by omega))]
  exact g4 k hk
theorem CX.e (h : CX C M) (f : Fq c M M1) (hc : ∀ o j, 35 ≤ o → o ≤ 38 → ¬ c o j) : ∀ e, e < C.ne → M1.i 35 e = zn (C.who e) ∧ M1.i 36 e = zn (C.em e) ∧ M1.i 37 e = zn (C.wh e) ∧ M1.i 38 e = zn (C.wo e) := by
  intro e he
  rw [f.i 35 e (hc _ _ (by omega) (by omega)), f.i 36 e (hc _ _ (by omega) (by omega)), f.i 37 e (hc _ _ (by omega) (by omega)), f.i 38 e (hc _ _ (by omega) (by omega))]
  exact h.2.2.2.1 e he
theorem CY.w (h : CY a C M) (f : Fq c M M1) (hc : ∀ o j, 74 ≤ o → o ≤ 76 → ¬ c o j) : ∀ w, w < C.nw → M1.i 75 w = zn (C.len w) ∧ M1.i 76 (2 * w) = zn (C.mn w) ∧ M1.i 76 (2 * w + 1) = C.sc w ∧ ∀ k, k < C.len w → M1.i 74 (6 * w + k) = zn (C.lt w k) := by
  intro w hw
  obtain ⟨g1, g2, g3, g4⟩ := h.2.2.1 w hw
  rw [f.i 75 w (hc _ _ (by omega) (by omega)), f.i 76 _ (hc _ _ (by omega) (by omega)), f.i 76 _ (hc _ _ (by omega) (by omega))]
  refine ⟨g1, g2, g3, fun k hk => ?_⟩
  rw [f.i 74 _ (hc _ _ (by omega) (by omega))]
  exact g4 k hk
theorem CY.e (h : CY a C M) (f : Fq c M M1) (hc : ∀ j, ¬ c 77 j) : ∀ e, e < C.ne → M1.i 77 (4 * e + 0) = zn (C.who e) ∧ M1.i 77 (4 * e + 1) = zn (C.em e) ∧ M1.i 77 (4 * e + 2) = zn (C.wh e) ∧ M1.i 77 (4 * e + 3) = zn (C.wo e) := by
  intro e he
  rw [f.i 77 _ (hc _), f.i 77 _ (hc _), f.i 77 _ (hc _), f.i 77 _ (hc _)]
  exact h.2.2.2.1 e he
theorem RuY.fr (h : RuY a C M) (f : Fq c M M1) (hc : ∀ o j, (o = a ∨ (o = 72 ∧ (j = 22 ∨ j = 24))) → ¬ c o j) : RuY a C M1 := by
  obtain ⟨e0, e1, e2, e3⟩ := h
  refine ⟨e0, ?_, ?_, fun k hk => ?_⟩
  · rw [f.r _ _ (hc _ _ (by omega))]; exact e1
  · rw [f.i _ _ (hc _ _ (by omega))]; exact e2
  · rw [f.i _ _ (hc _ _ (by omega))]; exact e3 k hk
theorem KX.new (h : KX C ch K M) (hd : DX M) (f : Fq c M M1) (h1 : ∀ j, ¬ c 69 j) (h4 : ∀ j, ¬ c 70 j) (h3 : ∀ o j, 105 ≤ o → ¬ c o j) (hc : ch < 1000) (h14 : M1.i 20 14 = zn (ch + 1)) : KX C' (ch + 1) K M1 := by
  refine ⟨by omega, h14, fun i hi => ⟨fun q => by rw [f.r _ _ (h1 i)]; exact (h.2.2 i hi).1 q, fun q => ?_⟩⟩
  obtain ⟨g1, g2, g3, a, g4, g5⟩ := (h.2.2 i hi).2 q
  have g6 := (hd (12 + i) (by omega) a (by unfold slt; rw [if_neg (by omega), show 12 + i - 12 = i by omega]; exact g4)).1.1.1
  exact ⟨by omega, fun e => absurd e (by omega), by rw [f.i _ _ (h4 i)]; exact g3, a, by rw [f.r _ _ (h1 i)]; exact g4, g5.fr f (fun o j q => h3 o j (by unfold rdc at q; omega))⟩
theorem KY.new (h : KY ch K M) (f : Fq c M M1) (h1 : ∀ o j, 101 ≤ o → o ≤ 103 → ¬ c o j) (h2 : M1.i 72 52 = zn (ch + 1)) : KY (ch + 1) K M1 := by
  refine ⟨h2, fun i hi => ⟨fun q => by rw [f.i _ _ (h1 _ _ (by omega) (by omega))]; exact (h.2 i hi).1 q, fun q => ?_⟩⟩
  obtain ⟨g1, g2, g3⟩ := (h.2 i hi).2 q
  exact ⟨by rw [f.i _ _ (h1 _ _ (by omega) (by omega))]; exact g1, by rw [f.i _ _ (h1 _ _ (by omega) (by omega))]; exact g2, fun j hj => by rw [f.i _ _ (h1 _ _ (by omega) (by omega))]; exact g3 j hj⟩
theorem XS.new (h : XS C A nT bT nU U ch K l M) (f : Fq c M M1) (hc : ∀ o j, (105 ≤ o ∨ o = 51 ∨ o = 69 ∨ o = 70 ∨ (o = 20 ∧ j = 14)) → ¬ c o j) (hx : CX C' M1) (ha : RvX 21 A' M1) (ok : OKA C' A') (ht : TX nT' bT' M1) (hl : LX l' M1) (hch : ch < 1000) : ∃ M2, x_isNew M1 = some ((), M2) ∧ Fq isn M1 M2 ∧ XS C' A' nT' bT' 0 U (ch + 1) K l' M2 := by
  have h14 : M1.i 20 14 = zn ch := (f.i 20 14 (hc _ _ (by omega))).trans h.kk.2.1
  obtain ⟨M2, hM2⟩ : ∃ M2, M2 = (M1.si 20 43 0).si 20 14 (zn (ch + 1)) := ⟨_, rfl⟩
  have f2 : Fq isn M1 M2 := by
    rw [hM2]; exact (Fq.si (c := isn) Fq.rf ⟨rfl, Or.inl rfl⟩).si ⟨rfl, Or.inr rfl⟩
  have d1 : DX M1 := h.d.fr f (fun j => hc _ _ (by omega)) (fun j => hc _ _ (by omega)) (fun o j q _ => hc _ _ (by omega))
  have k1 : KX C' (ch + 1) K M2 := by
    refine h.kk.new (f := ((f.mo (d := fun o j => c o j ∨ isn o j) (fun o j q => Or.inl q)).tr (f2.mo (d := fun o j => c o j ∨ isn o j) (fun o j q => Or.inr q)))) h.d (fun j w => ?_) (fun j w => ?_) (fun o j q w => ?_) hch (by rw [hM2, si_i, if_pos ⟨rfl, rfl⟩])
    · rcases w with w | w
      · exact hc _ _ (by omega) w
      · unfold isn at w; omega
    · rcases w with w | w
      · exact hc _ _ (by omega) w
      · unfold isn at w; omega
    · rcases w with w | w
      · exact hc _ _ (by omega) w
      · unfold isn at w; omega
  refine ⟨M2, ?_, f2, ⟨hx.fr f2 shR_isn (fun o j q => by unfold isn; omega), ha.fr f2 (fun o j q => by unfold rdc at q; unfold isn; omega), ok⟩, ht.fr f2 (by unfold isn; omega) (fun j => by unfold isn; omega), ⟨by omega, by rw [hM2, si_i, if_neg (by omega), si_i, if_pos ⟨rfl, rfl⟩]; rfl, fun k hk => absurd hk (by omega)⟩, k1, hl.fr f2 (by unfold isn; omega) (fun j => by unfold isn; omega), d1.fr f2 (fun j => by unfold isn; omega) (fun j => by unfold isn; omega) (fun o j q _ => by unfold isn; omega)⟩
  unfold x_isNew
  rw [lt_u, lt_u, si_i, if_neg (by omega), h14, zn_addl, ← hM2]
theorem YS.new (h : YS C A nT bT nU U ch K l M) (f : Fq c M M1) (hc : ∀ o j, ((101 ≤ o ∧ o ≤ 103) ∨ (o = 72 ∧ (j = 52 ∨ j = 23))) → ¬ c o j) (hy : CY 83 C' M1) (hb : RvY 73 A' M1) (ht : TY nT' bT' M1) (hl : LY l' M1) : (M1.si 72 29 0).i 72 52 = zn ch ∧ Fq isy M1 ((M1.si 72 29 0).si 72 52 (zn (ch + 1))) ∧ YS C' A' nT' bT' 0 U (ch + 1) K l' ((M1.si 72 29 0).si 72 52 (zn (ch + 1))) := by
  have h14 : M1.i 72 52 = zn ch := (f.i 72 52 (hc _ _ (by omega))).trans h.kk.1
  obtain ⟨M2, hM2⟩ : ∃ M2, M2 = (M1.si 72 29 0).si 72 52 (zn (ch + 1)) := ⟨_, rfl⟩
  have f2 : Fq isy M1 M2 := by
    rw [hM2]; exact (Fq.si (c := isy) Fq.rf ⟨rfl, Or.inl rfl⟩).si ⟨rfl, Or.inr rfl⟩
  have k0 : KY (ch + 1) K M2 := by
    refine h.kk.new (f := ((f.mo (d := fun o j => c o j ∨ isy o j) (fun o j q => Or.inl q)).tr (f2.mo (d := fun o j => c o j ∨ isy o j) (fun o j q => Or.inr q)))) (fun o j q1 q2 w => ?_) (by rw [hM2, si_i, if_pos ⟨rfl, rfl⟩])
    rcases w with w | w
    · exact hc o j (Or.inl ⟨q1, q2⟩) w
    · unfold isy at w; omega
  rw [← hM2]
  refine ⟨by rw [si_i, if_neg (by omega)]; exact h14, f2, ⟨hy.fr f2 shR_isy (fun o j q => by unfold isy; omega), ?_⟩, hb.fr f2 (fun j => by unfold isy; omega), ht.fr f2 (by unfold isy; omega) (fun j => by unfold isy; omega), ⟨by rw [hM2, si_i, if_neg (by omega), si_i, if_pos ⟨rfl, rfl⟩]; rfl, fun k hk => absurd hk (by omega)⟩, k0, hl.fr f2 (by unfold isy; omega) (fun j => by unfold isy; omega)⟩
  rw [f2.r _ _ (by unfold isy; omega), f.r _ _ (hc _ _ (by omega))]
  exact h.1.2
end
