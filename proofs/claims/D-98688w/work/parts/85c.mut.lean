set_option maxRecDepth 100000
section
variable {C : SV} {A A' B : Nat → Int32} {M M1 M2 N : PM} {nT nU nU' ch a : Nat} {bT : Nat → Nat} {U U' : Nat → Nat → Int32} {K : Nat → Bool × (Nat → Int32) × Nat} {l l' : List Int64}
theorem ts_lt {o j : Nat} (h : ts o j) : o < 105 := by
  unfold ts at h
  omega
theorem sh_xm {a : Nat} (ha : 105 ≤ a) : ∀ q ∈ shR, ¬ xm a q.1 q.2.1 := fun q hq w => by
  have h1 := shR_lt q hq
  refine shR_x6 q hq ?_
  rcases w with w | w | w | w | w | w | w
  · exact Or.inl w
  · exact Or.inr (Or.inl w)
  · exact Or.inr (Or.inr (Or.inl w))
  · exact Or.inr (Or.inr (Or.inr (Or.inl w)))
  · exact Or.inr (Or.inr (Or.inr (Or.inr (Or.inl w))))
  · exact Or.inr (Or.inr (Or.inr (Or.inr (Or.inr w))))
  · exfalso
    clear hq
    unfold rdc at w
    omega
theorem xm_big {a o j : Nat} (ho : 105 ≤ o) (w : xm a o j) : rdc a o j := by
  rcases w with w | w | w | w | w | w | w
  · exact absurd (ts_lt w) (by omega)
  · omega
  · omega
  · exfalso
    unfold rdc at w
    omega
  · omega
  · omega
  · exact w
theorem RV.mut (h : RV C A nT bT nU U ch K l M) (ha : M.n ≤ a ∨ ((105 ≤ a ∧ a + 4 < M.n) ∧ RdS M a)) (f : Ge (xm a) M M1) (hA : RvX 21 A' M1) (hU : UX C nU' U' M1) (hD : DX M1) (hK : KX C ch K M1) (hL : LX l' M1) (g : Fq ym M1 M2) (hB : RvY 73 A' M2) (hV : UY nU' U' M2) (hM : LY l' M2) (ok : OKA C A') (h15 : l'.length ≤ 15) : RV C A' nT bT nU' U' ch K l' M2 := by
  obtain ⟨⟨a1, a2, a3⟩, ⟨b1, b2, b3⟩, ⟨c1, c2⟩, ⟨d1, d2⟩, ⟨e1, e2⟩, ⟨l1, l2, l3⟩, k1⟩ := h
  have h0 := a1.sh.1
  have a105 : 105 ≤ a := by omega
  have sh1 := sh_xm a105
  have ru1 : RuX C M1 := by
    refine a1.ru.gr h0 f (by unfold xm ts pcl rdc; omega) (fun o j ho hl k3 k6 w => ?_)
    have w2 := xm_big ho w
    rcases ha with ha | ⟨-, ha⟩
    · unfold rdc at w2; omega
    · obtain ⟨q0, -, q1, q2, q3, q4⟩ := ha
      have : (M.k o).1 = 1 ∨ (M.k o).1 = 20 := by
        rcases (show o = a ∨ o = a + 1 ∨ o = a + 2 ∨ o = a + 3 ∨ o = a + 4 by unfold rdc at w2; omega) with e | e | e | e | e
        · rw [e, q0]; exact Or.inl rfl
        · rw [e, q1]; exact Or.inr rfl
        · rw [e, q2]; exact Or.inr rfl
        · rw [e, q3]; exact Or.inr rfl
        · rw [e, q4]; exact Or.inr rfl
      omega
  have x1 : CX C M1 := a1.ge f sh1 ru1 (fun o j q => by unfold xm ts pcl rdc; omega)
  have y1 : CY 83 C M1 := a2.ge f sh1 (fun o j q => by unfold xm ts pcl rdc; omega)
  have n1 : 105 ≤ M1.n := x1.sh.1
  refine ⟨⟨x1.fr g shR_ym (fun o j q => ?_), y1.fr g shR_ym (fun o j q => ?_), ?_⟩, ⟨hA.fr g (fun o j q => ?_), hB, ok⟩, ⟨(c1.ge h0 f ?_ (fun j => ?_)).fr g ?_ (fun j => ?_), (c2.ge h0 f ?_ (fun j => ?_)).fr g ?_ (fun j => ?_)⟩, ⟨hU.fr hD g (fun j => ?_) ?_ (fun o j q => ?_), hV⟩,
    ⟨hK.fr hD g (fun j => ?_) (fun j => ?_) ?_ (fun o j q => ?_), (e2.ge h0 f (fun o j q1 q2 => ?_) ?_).fr g (fun o j q1 q2 => ?_) ?_⟩, ⟨hL.fr g ?_ (fun j => ?_), hM, h15⟩, hD.fr g (fun j => ?_) (fun j => ?_) (fun o j q _ => ?_)⟩
  case refine_3 => rw [g.r _ _ (by unfold ym ts rcl; omega), f.r _ _ (by omega) (by unfold xm ts pcl rdc; omega)]; exact a3
  all_goals first | (unfold rdc at q; unfold ym ts rcl; omega) | (unfold ym ts rcl; omega) | (unfold xm ts pcl rdc; omega)
end
