set_option maxRecDepth 100000
section
variable {C : SV} {A A' B : Nat → Int32} {M M1 M2 N : PM} {nT nU nU' ch a : Nat} {bT : Nat → Nat} {U U' : Nat → Nat → Int32} {K : Nat → Bool × (Nat → Int32) × Nat} {l l' : List Int64}
/-- what a call that changes the road may write -/
abbrev xm (a o j : Nat) : Prop := ts o j ∨ (o = 20 ∧ j = 67) ∨ o = 71 ∨ rdc 21 o j ∨ pcl a o j
abbrev ym (o j : Nat) : Prop := ts o j ∨ (o = 72 ∧ (j = 12 ∨ j = 13)) ∨ o = 79 ∨ o = 73 ∨ rcl o j
abbrev x0c (o j : Nat) : Prop := ts o j ∨ rdc 21 o j
theorem shR_x0 : ∀ q ∈ shR, ¬ x0c q.1 q.2.1 := by decide +kernel
theorem shR_ym : ∀ q ∈ shR, ¬ ym q.1 q.2.1 := by decide +kernel
theorem shR_x6 : ∀ q ∈ shR, ¬ (ts q.1 q.2.1 ∨ (q.1 = 20 ∧ q.2.1 = 67) ∨ q.1 = 71 ∨ rdc 21 q.1 q.2.1 ∨ (q.1 = 20 ∧ q.2.1 = 43) ∨ q.1 = 51) := by decide +kernel
theorem RV.x0 (h : RV C A nT bT nU U ch K l M) (f : Fq x0c M N) : CX C N ∧ DX N ∧ UX C nU U N ∧ KX C ch K N ∧ LX l N := by
  obtain ⟨⟨a1, a2, a3⟩, ⟨b1, b2, b3⟩, ⟨c1, c2⟩, ⟨d1, d2⟩, ⟨e1, e2⟩, ⟨l1, l2, l3⟩, k1⟩ := h
  exact ⟨a1.fr f shR_x0 (fun o j q => by unfold x0c ts rdc; omega), k1.fr f (fun j => by unfold x0c ts rdc; omega) (fun j => by unfold x0c ts rdc; omega) (fun o j q _ => by unfold x0c ts rdc; omega), d1.fr k1 f (fun j => by unfold x0c ts rdc; omega) (by unfold x0c ts rdc; omega) (fun o j q => by unfold x0c ts rdc; omega), e1.fr k1 f (fun j => by unfold x0c ts rdc; omega) (fun j => by unfold x0c ts rdc; omega) (by unfold x0c ts rdc; omega) (fun o j q => by unfold x0c ts rdc; omega), l1.fr f (by unfold x0c ts rdc; omega) (fun j => by unfold x0c ts rdc; omega)⟩
end
