set_option maxRecDepth 100000
/-! A CALL, EACH SIDE FOR ITSELF -/
def XS (C : SV) (A : Nat → Int32) (nT : Nat) (bT : Nat → Nat) (nU : Nat) (U : Nat → Nat → Int32) (ch : Nat) (K : Nat → Bool × (Nat → Int32) × Nat) (l : List Int64) (M : PM) : Prop :=
  (CX C M ∧ RvX 21 A M ∧ OKA C A) ∧ TX nT bT M ∧ UX C nU U M ∧ KX C ch K M ∧ LX l M ∧ DX M
def YS (C : SV) (A : Nat → Int32) (nT : Nat) (bT : Nat → Nat) (nU : Nat) (U : Nat → Nat → Int32) (ch : Nat) (K : Nat → Bool × (Nat → Int32) × Nat) (l : List Int64) (M : PM) : Prop :=
  (CY 83 C M ∧ M.r 72 23 = some 84) ∧ RvY 73 A M ∧ TY nT bT M ∧ UY nU U M ∧ KY ch K M ∧ LY l M
/-- what a call of the system, of the reference may write -/
abbrev gxc (o j : Nat) : Prop := ¬ (72 ≤ o ∧ o ≤ 103) ∨ ts o j
abbrev gyc (o j : Nat) : Prop := (72 ≤ o ∧ o ≤ 104) ∨ ts o j
abbrev xqt (o j : Nat) : Prop := ts o j ∨ (o = 20 ∧ (j = 67 ∨ j = 16)) ∨ o = 71 ∨ o = 39
abbrev yqt (o j : Nat) : Prop := ts o j ∨ (o = 72 ∧ (j = 12 ∨ j = 13 ∨ j = 10)) ∨ o = 79 ∨ o = 78
abbrev xmt (o j : Nat) : Prop := xqt o j ∨ rdc 21 o j
abbrev ymt (o j : Nat) : Prop := yqt o j ∨ o = 73
theorem shR_xmt : ∀ q ∈ shR, ¬ xmt q.1 q.2.1 := by decide +kernel
theorem shR_ymt : ∀ q ∈ shR, ¬ ymt q.1 q.2.1 := by decide +kernel
theorem xqt_xm (o j : Nat) (h : xqt o j) : xmt o j := Or.inl h
theorem yqt_ym (o j : Nat) (h : yqt o j) : ymt o j := Or.inl h
theorem xmt_gx (o j : Nat) (h : xmt o j) : gxc o j := by
  rcases h with (h | h | h | h) | h
  · exact Or.inr h
  · exact Or.inl (by omega)
  · exact Or.inl (by omega)
  · exact Or.inl (by omega)
  · exact Or.inl (by unfold rdc at h; omega)
theorem ymt_gy (o j : Nat) (h : ymt o j) : gyc o j := by
  rcases h with (h | h | h | h) | h
  · exact Or.inr h
  · exact Or.inl (by omega)
  · exact Or.inl (by omega)
  · exact Or.inl (by omega)
  · exact Or.inl (by omega)
theorem xq_qt (o j : Nat) (h : xq o j) : xqt o j := by
  rcases h with h | h | h
  · exact Or.inl h
  · exact Or.inr (Or.inl ⟨h.1, Or.inl h.2⟩)
  · exact Or.inr (Or.inr (Or.inl h))
theorem yq_qt (o j : Nat) (h : yq o j) : yqt o j := by
  rcases h with h | h | h
  · exact Or.inl h
  · exact Or.inr (Or.inl ⟨h.1, h.2.elim (fun w => Or.inl w) (fun w => Or.inr (Or.inl w))⟩)
  · exact Or.inr (Or.inr (Or.inl h))
section
variable {c : Nat → Nat → Prop} {C : SV} {A A' : Nat → Int32} {M M1 M2 : PM} {nT nT' nU ch ad : Nat} {bT bT' : Nat → Nat} {U : Nat → Nat → Int32} {K : Nat → Bool × (Nat → Int32) × Nat} {l l' : List Int64}
theorem Fq.qt (f : Fq xq M M1) : Fq xqt M M1 := f.mo xq_qt
theorem Fq.yt (f : Fq yq M M1) : Fq yqt M M1 := f.mo yq_qt
theorem RV.xs (h : RV C A nT bT nU U ch K l M) : XS C A nT bT nU U ch K l M := ⟨⟨h.1.1, h.2.1.1, h.2.1.2.2⟩, h.2.2.1.1, h.2.2.2.1.1, h.2.2.2.2.1.1, h.2.2.2.2.2.1.1, h.2.2.2.2.2.2⟩
theorem RV.ys (h : RV C A nT bT nU U ch K l M) : YS C A nT bT nU U ch K l M := ⟨⟨h.1.2.1, h.1.2.2⟩, h.2.1.2.1, h.2.2.1.2, h.2.2.2.1.2, h.2.2.2.2.1.2, h.2.2.2.2.2.1.2.1⟩
theorem RV.xy (x : XS C A nT bT nU U ch K l M) (y : YS C A nT bT nU U ch K l M) (h15 : l.length ≤ 15) : RV C A nT bT nU U ch K l M := ⟨⟨x.1.1, y.1.1, y.1.2⟩, ⟨x.1.2.1, y.2.1, x.1.2.2⟩, ⟨x.2.1, y.2.2.1⟩, ⟨x.2.2.1, y.2.2.2.1⟩, ⟨x.2.2.2.1, y.2.2.2.2.1⟩, ⟨x.2.2.2.2.1, y.2.2.2.2.2, h15⟩, x.2.2.2.2.2⟩
theorem XS.x (h : XS C A nT bT nU U ch K l M) : CX C M := h.1.1
theorem XS.a (h : XS C A nT bT nU U ch K l M) : RvX 21 A M := h.1.2.1
theorem XS.ok (h : XS C A nT bT nU U ch K l M) : OKA C A := h.1.2.2
theorem XS.t (h : XS C A nT bT nU U ch K l M) : TX nT bT M := h.2.1
theorem XS.u (h : XS C A nT bT nU U ch K l M) : UX C nU U M := h.2.2.1
theorem XS.kk (h : XS C A nT bT nU U ch K l M) : KX C ch K M := h.2.2.2.1
theorem XS.lx (h : XS C A nT bT nU U ch K l M) : LX l M := h.2.2.2.2.1
theorem XS.d (h : XS C A nT bT nU U ch K l M) : DX M := h.2.2.2.2.2
theorem YS.y (h : YS C A nT bT nU U ch K l M) : CY 83 C M := h.1.1
theorem YS.b (h : YS C A nT bT nU U ch K l M) : RvY 73 A M := h.2.1
theorem YS.t (h : YS C A nT bT nU U ch K l M) : TY nT bT M := h.2.2.1
theorem YS.u (h : YS C A nT bT nU U ch K l M) : UY nU U M := h.2.2.2.1
theorem YS.kk (h : YS C A nT bT nU U ch K l M) : KY ch K M := h.2.2.2.2.1
theorem YS.ly (h : YS C A nT bT nU U ch K l M) : LY l M := h.2.2.2.2.2
theorem CX.frS (h : CX C M) (f : Fq c M M1) (hs : Sh M1) (hc : ∀ o j, (105 ≤ o ∨ (31 ≤ o ∧ o ≤ 38) ∨ (o = 20 ∧ (j = 38 ∨ (10 ≤ j ∧ j ≤ 13)))) → ¬ c o j) : CX C M1 := by
  obtain ⟨⟨a1, a2⟩, ⟨b1, b2, b3, b4⟩, c1, d1, e1⟩ := h
  refine ⟨⟨hs, a2⟩, ⟨?_, ?_, ?_, ?_⟩, fun w hw => ?_, fun e he => ?_, e1.fr f (fun o j q => hc o j (by omega))⟩
  · rw [f.i _ _ (hc _ _ (by omega))]; exact b1
  · rw [f.i _ _ (hc _ _ (by omega))]; exact b2
  · rw [f.i _ _ (hc _ _ (by omega))]; exact b3
  · rw [f.i _ _ (hc _ _ (by omega))]; exact b4
  · rw [f.i 32 w (hc _ _ (by omega)), f.i 33 w (hc _ _ (by omega)), f.i 34 w (hc _ _ (by omega))]
    obtain ⟨g1, g2, g3, g4⟩ := c1 w hw
    refine ⟨g1, g2, g3, fun k hk => ?_⟩
    rw [f.i 31 _ (hc _ _ (by omega))]
    exact g4 k hk
  · rw [f.i 35 e (hc _ _ (by omega)), f.i 36 e (hc _ _ (by omega)), f.i 37 e (hc _ _ (by omega)), f.i 38 e (hc _ _ (by omega))]
    exact d1 e he
theorem CY.geS (h : CY ad C M) (f : Ge c M M1) (hs : Sh M1) (hc : ∀ o j, ((74 ≤ o ∧ o ≤ 77) ∨ o = ad ∨ (o = 72 ∧ (j = 1 ∨ j = 2 ∨ j = 6 ∨ j = 7 ∨ j = 22 ∨ j = 24))) → ¬ c o j) : CY ad C M1 := by
  obtain ⟨⟨a1, a2⟩, ⟨b1, b2, b3, b4⟩, c1, d1, e0, e1, e2, e3⟩ := h
  have h0 := a1.1
  refine ⟨⟨hs, a2⟩, ⟨?_, ?_, ?_, ?_⟩, fun w hw => ?_, fun e he => ?_, e0, ?_, ?_, fun k hk => ?_⟩
  · rw [f.i _ _ (by omega) (hc _ _ (by omega))]; exact b1
  · rw [f.i _ _ (by omega) (hc _ _ (by omega))]; exact b2
  · rw [f.i _ _ (by omega) (hc _ _ (by omega))]; exact b3
  · rw [f.i _ _ (by omega) (hc _ _ (by omega))]; exact b4
  · rw [f.i 75 w (by omega) (hc _ _ (by omega)), f.i 76 _ (by omega) (hc _ _ (by omega)), f.i 76 _ (by omega) (hc _ _ (by omega))]
    obtain ⟨g1, g2, g3, g4⟩ := c1 w hw
    refine ⟨g1, g2, g3, fun k hk => ?_⟩
    rw [f.i 74 _ (by omega) (hc _ _ (by omega))]
    exact g4 k hk
  · rw [f.i 77 _ (by omega) (hc _ _ (by omega)), f.i 77 _ (by omega) (hc _ _ (by omega)), f.i 77 _ (by omega) (hc _ _ (by omega)), f.i 77 _ (by omega) (hc _ _ (by omega))]
    exact d1 e he
  · rw [f.r _ _ (by omega) (hc _ _ (by omega))]; exact e1
  · rw [f.i _ _ (by omega) (hc _ _ (by omega))]; exact e2
  · rw [f.i _ _ (by omega) (hc _ _ (by omega))]; exact e3 k hk
/-- the other side stays -/
theorem YS.ge (h : YS C A nT bT nU U ch K l M) (f : Ge gxc M M1) (hs : Sh M1) : YS C A nT bT nU U ch K l M1 := by
  obtain ⟨⟨a1, a2⟩, b1, c1, d1, e1, l1⟩ := h
  have h0 := a1.sh.1
  refine ⟨⟨a1.geS f hs (fun o j q => ?_), ?_⟩, b1.ge (by omega) f (fun j => ?_), c1.ge h0 f ?_ (fun j => ?_), d1.ge h0 f (fun j => ?_) ?_, e1.ge h0 f (fun o j q1 q2 => ?_) ?_, l1.ge h0 f ?_ (fun j => ?_)⟩
  case refine_2 => rw [f.r _ _ (by omega) (by unfold gxc ts; omega)]; exact a2
  all_goals (unfold gxc ts; omega)
theorem XS.fr (h : XS C A nT bT nU U ch K l M) (f : Fq gyc M M1) (hs : Sh M1) : XS C A nT bT nU U ch K l M1 := by
  obtain ⟨⟨a1, b1, b2⟩, c1, d1, e1, l1, k1⟩ := h
  refine ⟨⟨a1.frS f hs (fun o j q => ?_), b1.fr f (fun o j q => ?_), b2⟩, c1.fr f ?_ (fun j => ?_), d1.fr k1 f (fun j => ?_) ?_ (fun o j q => ?_), e1.fr k1 f (fun j => ?_) (fun j => ?_) ?_ (fun o j q => ?_), l1.fr f ?_ (fun j => ?_), k1.fr f (fun j => ?_) (fun j => ?_) (fun o j q _ => ?_)⟩
  all_goals first | (unfold rdc at q; unfold gyc ts; omega) | (unfold gyc ts; omega)
/-- a side whose road, text, rows changed -/
theorem XS.m (h : XS C A nT bT nU U ch K l M) (f : Fq xmt M M1) (ha : RvX 21 A' M1) (ok : OKA C A') (ht : TX nT' bT' M1) (hl : LX l' M1) : XS C A' nT' bT' nU U ch K l' M1 := by
  obtain ⟨⟨a1, b1, b2⟩, c1, d1, e1, l1, k1⟩ := h
  refine ⟨⟨a1.fr f shR_xmt (fun o j q => ?_), ha, ok⟩, ht, d1.fr k1 f (fun j => ?_) ?_ (fun o j q => ?_), e1.fr k1 f (fun j => ?_) (fun j => ?_) ?_ (fun o j q => ?_), hl, k1.fr f (fun j => ?_) (fun j => ?_) (fun o j q _ => ?_)⟩
  all_goals (unfold xmt xqt ts rdc; omega)
theorem YS.m (h : YS C A nT bT nU U ch K l M) (f : Fq ymt M M1) (ha : RvY 73 A' M1) (ht : TY nT' bT' M1) (hl : LY l' M1) : YS C A' nT' bT' nU U ch K l' M1 := by
  obtain ⟨⟨a1, a2⟩, b1, c1, d1, e1, l1⟩ := h
  refine ⟨⟨a1.fr f shR_ymt (fun o j q => ?_), ?_⟩, ha, ht, d1.fr f (fun j => ?_) ?_, e1.fr f (fun o j q1 q2 => ?_) ?_, hl⟩
  case refine_2 => rw [f.r _ _ (by unfold ymt yqt ts; omega)]; exact a2
  all_goals (unfold ymt yqt ts; omega)
theorem XS.q (h : XS C A nT bT nU U ch K l M) (f : Fq xqt M M1) (ht : TX nT' bT' M1) (hl : LX l' M1) : XS C A nT' bT' nU U ch K l' M1 := h.m (f.mo xqt_xm) (h.a.fr f (fun o j q => by unfold rdc at q; unfold xqt ts; omega)) h.ok ht hl
theorem YS.q (h : YS C A nT bT nU U ch K l M) (f : Fq yqt M M1) (ht : TY nT' bT' M1) (hl : LY l' M1) : YS C A nT' bT' nU U ch K l' M1 := h.m (f.mo yqt_ym) (h.b.fr f (fun j => by unfold yqt ts; omega)) ht hl
theorem Fq.gx (f : Fq xqt M M1) : Ge gxc M M1 := (f.mo (fun o j q => xmt_gx o j (Or.inl q))).ge
theorem Fq.gy (f : Fq yqt M M1) : Fq gyc M M1 := f.mo (fun o j q => ymt_gy o j (Or.inl q))
theorem Fq.gxm (f : Fq xmt M M1) : Ge gxc M M1 := (f.mo xmt_gx).ge
theorem Fq.gym (f : Fq ymt M M1) : Fq gyc M M1 := f.mo ymt_gy
theorem Fq.n5 (f : Fq c M M1) : M1.n ≤ M.n + 500 := by rw [f.1]; omega
theorem Fq.w5 (f : Fq c M M1) : M1.w ≤ M.w + 5000 := by rw [f.2.1]; omega
end
/-- a call behind which the count of changes may be one more -/
def CallN (fx fm : PM → Option (Int32 × PM)) : Prop := ∀ kb M, kb < 1000 → RR kb M → ∃ v M1 M2, fx M = some (v, M1) ∧ fm M1 = some (v, M2) ∧ RR (kb + 1) M2 ∧ M2.n ≤ M.n + 500 ∧ M2.w ≤ M.w + 5000
theorem Call.b {fx fm : PM → Option (Int32 × PM)} (h : Call fx fm) : CallN fx fm := by
  intro kb M _ hR
  obtain ⟨v, M1, M2, e1, e2, ⟨C, A, nT, bT, nU, U, ch, K, l, hR2⟩, n, w⟩ := h kb M hR
  exact ⟨v, M1, M2, e1, e2, ⟨C, A, nT, bT, nU, U, ⟨ch.1, Nat.le_succ_of_le ch.2⟩, K, l, hR2⟩, n, w⟩
theorem CallN.xy {fx fm : PM → Option (Int32 × PM)} (h : ∀ C A nT bT nU U ch K l, OKC C → OKA C A → l.length ≤ 15 → ch < 1000 → (nT ≤ 80 ∧ ∀ k, bT k < 256) → ∃ v C' A' nT' bT' nU' U' ch' K' l', ch' ≤ ch + 1 ∧ l'.length ≤ 15 ∧
    (∀ M, XS C A nT bT nU U ch K l M → ∃ M1, fx M = some (v, M1) ∧ Ge gxc M M1 ∧ XS C' A' nT' bT' nU' U' ch' K' l' M1 ∧ M1.n ≤ M.n + 500 ∧ M1.w ≤ M.w + 5000) ∧
    (∀ M, YS C A nT bT nU U ch K l M → ∃ M2, fm M = some (v, M2) ∧ Fq gyc M M2 ∧ YS C' A' nT' bT' nU' U' ch' K' l' M2)) : CallN fx fm := by
  rintro kb M hkb ⟨C, A, nT, bT, nU, U, ch, K, l, hR⟩
  obtain ⟨v, C', A', nT', bT', nU', U', ch', K', l', hc, h15, hx, hy⟩ := h C A nT bT nU U ch K l hR.x.ok hR.ok hR.l15 (by have := ch.2; omega) hR.xs.t.1
  obtain ⟨M1, e1, f1, x1, n1, w1⟩ := hx M hR.xs
  obtain ⟨M2, e2, f2, y2⟩ := hy M1 (hR.ys.ge f1 x1.x.sh)
  refine ⟨v, M1, M2, e1, e2, ⟨C', A', nT', bT', nU', U', ⟨ch', by have := ch.2; omega⟩, K', l', RV.xy (x1.fr f2 y2.y.sh) y2 h15⟩, ?_, ?_⟩
  · rw [f2.1]; exact n1
  · rw [f2.2.1]; exact w1
theorem Call.xy {fx fm : PM → Option (Int32 × PM)} (h : ∀ C A nT bT nU U ch K l, OKC C → OKA C A → l.length ≤ 15 → (nT ≤ 80 ∧ ∀ k, bT k < 256) → ∃ v C' A' nT' bT' nU' U' K' l', l'.length ≤ 15 ∧
    (∀ M, XS C A nT bT nU U ch K l M → ∃ M1, fx M = some (v, M1) ∧ Ge gxc M M1 ∧ XS C' A' nT' bT' nU' U' ch K' l' M1 ∧ M1.n ≤ M.n + 500 ∧ M1.w ≤ M.w + 5000) ∧
    (∀ M, YS C A nT bT nU U ch K l M → ∃ M2, fm M = some (v, M2) ∧ Fq gyc M M2 ∧ YS C' A' nT' bT' nU' U' ch K' l' M2)) : Call fx fm := by
  rintro kb M ⟨C, A, nT, bT, nU, U, ch, K, l, hR⟩
  obtain ⟨v, C', A', nT', bT', nU', U', K', l', h15, hx, hy⟩ := h C A nT bT nU U ch K l hR.x.ok hR.ok hR.l15 hR.xs.t.1
  obtain ⟨M1, e1, f1, x1, n1, w1⟩ := hx M hR.xs
  obtain ⟨M2, e2, f2, y2⟩ := hy M1 (hR.ys.ge f1 x1.x.sh)
  refine ⟨v, M1, M2, e1, e2, ⟨C', A', nT', bT', nU', U', ch, K', l', RV.xy (x1.fr f2 y2.y.sh) y2 h15⟩, ?_, ?_⟩
  · rw [f2.1]; exact n1
  · rw [f2.2.1]; exact w1
