set_option maxRecDepth 100000
/-! A MEMORY THAT GROWS: the cells that were are as they were, but for the class c -/
def Ge (c : Nat → Nat → Prop) (M M' : PM) : Prop := M.n ≤ M'.n ∧ (∀ o, o < M.n → M'.k o = M.k o) ∧ ∀ o j, o < M.n → ¬ c o j → M'.i o j = M.i o j ∧ M'.l o j = M.l o j ∧ M'.r o j = M.r o j
section
variable {c d : Nat → Nat → Prop} {C : SV} {A : Nat → Int32} {M M' M1 : PM} {a n ch : Nat} {b : Nat → Nat} {U : Nat → Nat → Int32} {K : Nat → Bool × (Nat → Int32) × Nat} {tl : List Int64}
theorem Fq.ge (f : Fq c M M') : Ge c M M' := ⟨Nat.le_of_eq f.1.symm, fun o _ => by rw [f.k], fun o j _ q => f.2.2.2 o j q⟩
theorem Ge.tr (f : Ge c M M1) (g : Ge c M1 M') : Ge c M M' := by
  obtain ⟨f1, f2, f3⟩ := f
  obtain ⟨g1, g2, g3⟩ := g
  refine ⟨by omega, fun o ho => (g2 o (by omega)).trans (f2 o ho), fun o j ho q => ?_⟩
  obtain ⟨a1, a2, a3⟩ := f3 o j ho q
  obtain ⟨b1, b2, b3⟩ := g3 o j (by omega) q
  exact ⟨b1.trans a1, b2.trans a2, b3.trans a3⟩
theorem Ge.mo (f : Ge c M M') (h : ∀ o j, c o j → d o j) : Ge d M M' := ⟨f.1, f.2.1, fun o j ho q => f.2.2 o j ho (fun g => q (h o j g))⟩
theorem Ge.nw (M : PM) (x y z : Nat) : Ge c M (M.nw x y z) := by
  refine ⟨Nat.le_succ _, fun o ho => by rw [nw_k, if_neg (by omega)], fun o j ho _ => ⟨by rw [nw_i, if_neg (by omega)], by rw [nw_l, if_neg (by omega)], by rw [nw_r, if_neg (by omega)]⟩⟩
theorem Ge.i (f : Ge c M M') (o j : Nat) (ho : o < M.n) (q : ¬ c o j) : M'.i o j = M.i o j := (f.2.2 o j ho q).1
theorem Ge.l (f : Ge c M M') (o j : Nat) (ho : o < M.n) (q : ¬ c o j) : M'.l o j = M.l o j := (f.2.2 o j ho q).2.1
theorem Ge.r (f : Ge c M M') (o j : Nat) (ho : o < M.n) (q : ¬ c o j) : M'.r o j = M.r o j := (f.2.2 o j ho q).2.2
theorem Sh.ge (h : Sh M) (f : Ge c M M') (hc : ∀ q ∈ shR, ¬ c q.1 q.2.1) : Sh M' := by
  have h0 := h.1
  refine ⟨Nat.le_trans h.1 f.1, fun j q e => ?_, fun q hq => ?_⟩
  · have h1 := sh_lt e
    rw [f.2.1 _ (by omega)]
    exact h.2.1 j q e
  · have h1 := shR_lt q hq
    rw [f.r _ _ (by omega) (hc q hq)]
    exact h.2.2 q hq
theorem RuX.ge (h : RuX C M) (h0 : 105 ≤ M.n) (f : Ge c M M') (hc : ∀ o j, (105 ≤ o ∨ (o = 20 ∧ j = 38)) → ¬ c o j) : RuX C M' := by
  have e : M'.r 20 38 = M.r 20 38 := f.r 20 38 (by omega) (hc 20 38 (Or.inr ⟨rfl, rfl⟩))
  rcases h with ⟨h1, h2⟩ | ⟨h1, a, h2, h3⟩
  · exact Or.inl ⟨h1, by rw [e]; exact h2⟩
  · refine Or.inr ⟨h1, a, by rw [e]; exact h2, h3.fr f.1 (fun o ho hl _ _ => ⟨f.2.1 o hl, ?_, ?_⟩)⟩
    · funext j
      exact f.i o j hl (hc o j (Or.inl ho))
    · funext j
      exact f.r o j hl (hc o j (Or.inl ho))
/-- a rule's tree stays also where only roads were written -/
theorem RuX.gr (h : RuX C M) (h0 : 105 ≤ M.n) (f : Ge c M M') (h38 : ¬ c 20 38) (hc : ∀ o j, 105 ≤ o → o < M.n → 3 ≤ (M.k o).1 → (M.k o).1 ≤ 6 → ¬ c o j) : RuX C M' := by
  have e : M'.r 20 38 = M.r 20 38 := f.r 20 38 (by omega) h38
  rcases h with ⟨h1, h2⟩ | ⟨h1, a, h2, h3⟩
  · exact Or.inl ⟨h1, by rw [e]; exact h2⟩
  · refine Or.inr ⟨h1, a, by rw [e]; exact h2, h3.fr f.1 (fun o ho hl k1 k2 => ⟨f.2.1 o hl, ?_, ?_⟩)⟩
    · funext j
      exact f.i o j hl (hc o j ho hl k1 k2)
    · funext j
      exact f.r o j hl (hc o j ho hl k1 k2)
theorem CX.ge (h : CX C M) (f : Ge c M M') (h1 : ∀ q ∈ shR, ¬ c q.1 q.2.1) (hru : RuX C M') (hc : ∀ o j, ((31 ≤ o ∧ o ≤ 38) ∨ (o = 20 ∧ 10 ≤ j ∧ j ≤ 13)) → ¬ c o j) : CX C M' := by
  obtain ⟨⟨a1, a2⟩, ⟨b1, b2, b3, b4⟩, c1, d1, e1⟩ := h
  have h0 := a1.1
  refine ⟨⟨a1.ge f h1, a2⟩, ⟨?_, ?_, ?_, ?_⟩, fun w hw => ?_, fun e he => ?_, hru⟩
  · rw [f.i _ _ (by omega) (hc _ _ (by omega))]; exact b1
  · rw [f.i _ _ (by omega) (hc _ _ (by omega))]; exact b2
  · rw [f.i _ _ (by omega) (hc _ _ (by omega))]; exact b3
  · rw [f.i _ _ (by omega) (hc _ _ (by omega))]; exact b4
  · rw [f.i 32 w (by omega) (hc _ _ (by omega)), f.i 33 w (by omega) (hc _ _ (by omega)), f.i 34 w (by omega) (hc _ _ (by omega))]
    obtain ⟨g1, g2, g3, g4⟩ := c1 w hw
    refine ⟨g1, g2, g3, fun k hk => ?_⟩
    rw [f.i 31 _ (by omega) (hc _ _ (by omega))]
    exact g4 k hk
  · rw [f.i 35 e (by omega) (hc _ _ (by omega)), f.i 36 e (by omega) (hc _ _ (by omega)), f.i 37 e (by omega) (hc _ _ (by omega)), f.i 38 e (by omega) (hc _ _ (by omega))]
    exact d1 e he
theorem CY.ge (h : CY a C M) (f : Ge c M M') (h1 : ∀ q ∈ shR, ¬ c q.1 q.2.1) (hc : ∀ o j, ((74 ≤ o ∧ o ≤ 77) ∨ o = a ∨ (o = 72 ∧ (j = 1 ∨ j = 2 ∨ j = 6 ∨ j = 7 ∨ j = 22 ∨ j = 24))) → ¬ c o j) : CY a C M' := by
  obtain ⟨⟨a1, a2⟩, ⟨b1, b2, b3, b4⟩, c1, d1, e0, e1, e2, e3⟩ := h
  have h0 := a1.1
  refine ⟨⟨a1.ge f h1, a2⟩, ⟨?_, ?_, ?_, ?_⟩, fun w hw => ?_, fun e he => ?_, e0, ?_, ?_, fun k hk => ?_⟩
  · rw [f.i _ _ (by omega) (hc _ _ (by omega))]; exact b1
  · rw [f.i _ _ (by omega) (hc _ _ (by omega))]; exact b2
  · rw [f.i _ _ (by omega) (hc _ _ (by omega))]; exact b3
  · rw [f.i _ _ (by omega) (hc _ _ (by omega))]; exact b4
  · rw [f.i 75 w (by omega) (hc _ _ (by omega)), f.i 76 _ (by omega) (hc _ _ (by omega)), f.i 76 _ (by omega) (hc _ _ (by omega))]
    obtain ⟨g1, g2, g3, g4⟩ := c1 w hw
    refine ⟨g1, g2, g3, fun k hk => ?_⟩
    rw [f.i 74 _ (by omega) (hc _ _ (by omega))]
    exact g4 k hk
  · rw [f.i 77 _ (by omega) (hc _ _ (by omega)), f.i 77 _ (by omega) (hc _ _ (by omega)), f.i 77 _ (by omega) (hc _ _ (by omega)), f.i 77 _ (by omega) (hc _ _ (by omega))]
    exact d1 e he
  · rw [f.r _ _ (by omega) (hc _ _ (by omega))]; exact e1
  · rw [f.i _ _ (by omega) (hc _ _ (by omega))]; exact e2
  · rw [f.i _ _ (by omega) (hc _ _ (by omega))]; exact e3 k hk
theorem RdS.ge (h : RdS M a) (ha : a + 4 < M.n) (f : Ge c M M') (hc : ∀ j, j < 4 → ¬ c a j) : RdS M' a := by
  obtain ⟨h1, ⟨h2, h3, h4, h5⟩, h6⟩ := h
  unfold RdS
  rw [f.2.1 a (by omega), f.2.1 (a + 1) (by omega), f.2.1 (a + 2) (by omega), f.2.1 (a + 3) (by omega), f.2.1 (a + 4) (by omega), f.r a 0 (by omega) (hc 0 (by omega)), f.r a 1 (by omega) (hc 1 (by omega)), f.r a 2 (by omega) (hc 2 (by omega)), f.r a 3 (by omega) (hc 3 (by omega))]
  exact ⟨h1, ⟨h2, h3, h4, h5⟩, h6⟩
theorem RvX.ge (h : RvX a A M) (ha : a + 4 < M.n) (f : Ge c M M') (hc : ∀ o j, rdc a o j → ¬ c o j) : RvX a A M' := by
  obtain ⟨h1, h2, h3, h4⟩ := h
  refine ⟨fun t ht => ?_, ?_, ?_, fun k hk => ?_⟩
  · rw [f.i _ _ (by omega) (hc (a + 1) t (by unfold rdc; omega)), f.i _ _ (by omega) (hc (a + 2) t (by unfold rdc; omega)), f.i _ _ (by omega) (hc (a + 3) t (by unfold rdc; omega))]
    exact h1 t ht
  · rw [f.i _ _ (by omega) (hc a 4 (by unfold rdc; omega))]; exact h2
  · rw [f.i _ _ (by omega) (hc a 5 (by unfold rdc; omega))]; exact h3
  · rw [f.i _ _ (by omega) (hc (a + 4) k (by unfold rdc; omega))]; exact h4 k hk
theorem RvY.ge (h : RvY a A M) (ha : a < M.n) (f : Ge c M M') (hc : ∀ j, ¬ c a j) : RvY a A M' := fun j hj => by
  rw [f.i a j ha (hc j)]; exact h j hj
theorem TX.ge (h : TX n b M) (h0 : 105 ≤ M.n) (f : Ge c M M') (h1 : ¬ c 20 16) (h2 : ∀ j, ¬ c 39 j) : TX n b M' := ⟨h.1, by rw [f.i _ _ (by omega) h1]; exact h.2.1, fun k hk => by rw [f.i _ _ (by omega) (h2 k)]; exact h.2.2 k hk⟩
theorem TY.ge (h : TY n b M) (h0 : 105 ≤ M.n) (f : Ge c M M') (h1 : ¬ c 72 10) (h2 : ∀ j, ¬ c 78 j) : TY n b M' := ⟨h.1, by rw [f.i _ _ (by omega) h1]; exact h.2.1, fun k hk => by rw [f.i _ _ (by omega) (h2 k)]; exact h.2.2 k hk⟩
theorem slt.ge (h0 : 105 ≤ M.n) (f : Ge c M M') (h1 : ∀ j, ¬ c 51 j) (h2 : ∀ j, ¬ c 69 j) (s : Nat) : slt M' s = slt M s := by
  unfold slt
  rw [f.r _ _ (by omega) (h1 s), f.r _ _ (by omega) (h2 (s - 12))]
theorem DX.ge (h : DX M) (h0 : 105 ≤ M.n) (f : Ge c M M') (h1 : ∀ j, ¬ c 51 j) (h2 : ∀ j, ¬ c 69 j) (h3 : ∀ o j, 105 ≤ o → j < 4 → (M.k o).1 = 1 → ¬ c o j) : DX M' := by
  intro s hs a ha
  rw [slt.ge h0 f h1 h2] at ha
  obtain ⟨⟨g1, g2⟩, g3⟩ := h s hs a ha
  have hk1 : (M.k a).1 = 1 := by rw [g2.1]
  refine ⟨⟨⟨g1.1, Nat.lt_of_lt_of_le g1.2 f.1⟩, g2.ge g1.2 f (fun j hj => h3 a j g1.1 hj hk1)⟩, fun s' hs' hn => ?_⟩
  rw [slt.ge h0 f h1 h2]
  exact g3 s' hs' hn
theorem UX.ge (h : UX C n U M) (h0 : 105 ≤ M.n) (hd : DX M) (f : Ge c M M') (h1 : ∀ j, ¬ c 51 j) (h2 : ¬ c 20 43) (h3 : ∀ o j, 105 ≤ o → ¬ c o j) : UX C n U M' := by
  refine ⟨h.1, by rw [f.i _ _ (by omega) h2]; exact h.2.1, fun k hk => ?_⟩
  have hn := h.1
  obtain ⟨g0, a, g1, g2⟩ := h.2.2 k hk
  have g3 := (hd k (by omega) a (by unfold slt; rw [if_pos (by omega)]; exact g1)).1.1
  exact ⟨g0, a, by rw [f.r _ _ (by omega) (h1 k)]; exact g1, g2.ge g3.2 f (fun o j q => h3 o j (by unfold rdc at q; omega))⟩
theorem UY.ge (h : UY n U M) (h0 : 105 ≤ M.n) (f : Ge c M M') (h1 : ∀ j, ¬ c 87 j) (h2 : ¬ c 72 29) : UY n U M' := ⟨by rw [f.i _ _ (by omega) h2]; exact h.1, fun k hk j hj => by rw [f.i _ _ (by omega) (h1 _)]; exact h.2 k hk j hj⟩
theorem KX.ge (h : KX C ch K M) (h0 : 105 ≤ M.n) (hd : DX M) (f : Ge c M M') (h1 : ∀ j, ¬ c 69 j) (h4 : ∀ j, ¬ c 70 j) (h2 : ¬ c 20 14) (h3 : ∀ o j, 105 ≤ o → ¬ c o j) : KX C ch K M' := by
  refine ⟨h.1, by rw [f.i _ _ (by omega) h2]; exact h.2.1, fun i hi => ⟨fun q => by rw [f.r _ _ (by omega) (h1 i)]; exact (h.2.2 i hi).1 q, fun q => ?_⟩⟩
  obtain ⟨g1, g2, g3, a, g4, g5⟩ := (h.2.2 i hi).2 q
  have g6 := (hd (12 + i) (by omega) a (by unfold slt; rw [if_neg (by omega), show 12 + i - 12 = i by omega]; exact g4)).1.1
  exact ⟨g1, g2, by rw [f.i _ _ (by omega) (h4 i)]; exact g3, a, by rw [f.r _ _ (by omega) (h1 i)]; exact g4, g5.ge g6.2 f (fun o j q => h3 o j (by unfold rdc at q; omega))⟩
theorem KY.ge (h : KY ch K M) (h0 : 105 ≤ M.n) (f : Ge c M M') (h1 : ∀ o j, 101 ≤ o → o ≤ 103 → ¬ c o j) (h2 : ¬ c 72 52) : KY ch K M' := by
  refine ⟨by rw [f.i _ _ (by omega) h2]; exact h.1, fun i hi => ⟨fun q => by rw [f.i _ _ (by omega) (h1 _ _ (by omega) (by omega))]; exact (h.2 i hi).1 q, fun q => ?_⟩⟩
  obtain ⟨g1, g2, g3⟩ := (h.2 i hi).2 q
  exact ⟨by rw [f.i _ _ (by omega) (h1 _ _ (by omega) (by omega))]; exact g1, by rw [f.i _ _ (by omega) (h1 _ _ (by omega) (by omega))]; exact g2, fun j hj => by rw [f.i _ _ (by omega) (h1 _ _ (by omega) (by omega))]; exact g3 j hj⟩
theorem LX.ge (h : LX tl M) (h0 : 105 ≤ M.n) (f : Ge c M M') (h1 : ¬ c 20 67) (h2 : ∀ j, ¬ c 71 j) : LX tl M' := ⟨by rw [f.i _ _ (by omega) h1]; exact h.1, fun k hk => by rw [f.l _ _ (by omega) (h2 k)]; exact h.2 k hk⟩
theorem LY.ge (h : LY tl M) (h0 : 105 ≤ M.n) (f : Ge c M M') (h1 : ¬ c 72 12) (h2 : ∀ j, ¬ c 79 j) : LY tl M' := ⟨by rw [f.i _ _ (by omega) h1]; exact h.1, fun k hk => by rw [f.l _ _ (by omega) (h2 k)]; exact h.2 k hk⟩
end
section
variable {C : SV} {A : Nat → Int32} {M M1 : PM} {nT nU ch : Nat} {bT : Nat → Nat} {U : Nat → Nat → Int32} {K : Nat → Bool × (Nat → Int32) × Nat} {l : List Int64}
/-- everything holds on where only scratch was written and cells were made -/
theorem RV.gw (h : RV C A nT bT nU U ch K l M) (f : Ge ts M M1) : RV C A nT bT nU U ch K l M1 := by
  obtain ⟨⟨a1, a2, a3⟩, ⟨b1, b2, b3⟩, ⟨c1, c2⟩, ⟨d1, d2⟩, ⟨e1, e2⟩, ⟨l1, l2, l3⟩, k1⟩ := h
  have h0 := a1.sh.1
  refine ⟨⟨a1.ge f shR_ts (a1.ru.ge h0 f (fun o j q => ?_)) (fun o j q => ?_), a2.ge f shR_ts (fun o j q => ?_), ?_⟩, ⟨b1.ge (by omega) f (fun o j q => ?_), b2.ge (by omega) f (fun j => ?_), b3⟩, ⟨c1.ge h0 f ?_ (fun j => ?_), c2.ge h0 f ?_ (fun j => ?_)⟩, ⟨d1.ge h0 k1 f (fun j => ?_) ?_ (fun o j q => ?_), d2.ge h0 f (fun j => ?_) ?_⟩,
    ⟨e1.ge h0 k1 f (fun j => ?_) (fun j => ?_) ?_ (fun o j q => ?_), e2.ge h0 f (fun o j q1 q2 => ?_) ?_⟩, ⟨l1.ge h0 f ?_ (fun j => ?_), l2.ge h0 f ?_ (fun j => ?_), l3⟩, k1.ge h0 f (fun j => ?_) (fun j => ?_) (fun o j q _ _ => ?_)⟩
  case refine_4 => rw [f.r _ _ (by omega) (by unfold ts; omega)]; exact a3
  all_goals first | (unfold rdc at q; unfold ts; omega) | (unfold ts; omega)
end
