set_option maxRecDepth 100000
/-! WHAT BOTH HOLD ALIKE -/
def OKA (C : SV) (A : Nat → Int32) : Prop := (∀ t, t < C.nt → ∃ s, s < C.ns ∧ A t = zn s) ∧ (∃ d, d < 2 ^ C.ne ∧ A 13 = zn d) ∧ ∀ t, t < C.nt → ∃ p, p ≤ 9999 ∧ A (4 + t) = zn p
def TX (n : Nat) (b : Nat → Nat) (M : PM) : Prop := (n ≤ 80 ∧ ∀ k, b k < 256) ∧ M.i 20 16 = zn n ∧ ∀ k, k < 80 → M.i 39 k = zn (b k)
def TY (n : Nat) (b : Nat → Nat) (M : PM) : Prop := (n ≤ 80 ∧ ∀ k, b k < 256) ∧ M.i 72 10 = zn n ∧ ∀ k, k < 80 → M.i 78 k = b8 (b k)
/-- the system's slots for roads: 12 that are put by, 2 that are kept -/
def slt (M : PM) (s : Nat) : Option Nat := if s < 12 then M.r 51 s else M.r 69 (s - 12)
def DX (M : PM) : Prop := ∀ s, s < 14 → ∀ a, slt M s = some a → ((105 ≤ a ∧ a + 4 < M.n) ∧ RdS M a) ∧ ∀ s', s' < 14 → s' ≠ s → slt M s' ≠ some a
def UX (C : SV) (n : Nat) (U : Nat → Nat → Int32) (M : PM) : Prop := n ≤ 12 ∧ M.i 20 43 = zn n ∧ ∀ k, k < n → OKA C (U k) ∧ ∃ a, M.r 51 k = some a ∧ RvX a (U k) M
def UY (n : Nat) (U : Nat → Nat → Int32) (M : PM) : Prop := M.i 72 29 = zn n ∧ ∀ k, k < n → ∀ j, j < 44 → M.i 87 (44 * k + j) = U k j
def KX (C : SV) (ch : Nat) (K : Nat → Bool × (Nat → Int32) × Nat) (M : PM) : Prop := ch ≤ 1000 ∧ M.i 20 14 = zn ch ∧ ∀ i, i < 2 → ((K i).1 = false → M.r 69 i = none) ∧ ((K i).1 = true → (K i).2.2 ≤ ch ∧ ((K i).2.2 = ch → OKA C (K i).2.1) ∧ M.i 70 i = zn (K i).2.2 ∧ ∃ a, M.r 69 i = some a ∧ RvX a (K i).2.1 M)
def KY (ch : Nat) (K : Nat → Bool × (Nat → Int32) × Nat) (M : PM) : Prop := M.i 72 52 = zn ch ∧ ∀ i, i < 2 → ((K i).1 = false → M.i 102 i = 0) ∧ ((K i).1 = true → M.i 102 i = 1 ∧ M.i 103 i = zn (K i).2.2 ∧ ∀ j, j < 44 → M.i 101 (44 * i + j) = (K i).2.1 j)
def LX (l : List Int64) (M : PM) : Prop := M.i 20 67 = zn l.length ∧ ∀ k, k < l.length → M.l 71 k = l.getD k 0
def LY (l : List Int64) (M : PM) : Prop := M.i 72 12 = zn l.length ∧ ∀ k, k < l.length → M.l 79 k = l.getD k 0
section
variable {c : Nat → Nat → Prop} {C : SV} {A : Nat → Int32} {M M' : PM} {n ch : Nat} {b : Nat → Nat} {U : Nat → Nat → Int32} {K : Nat → Bool × (Nat → Int32) × Nat} {l : List Int64}
theorem TX.fr (h : TX n b M) (f : Fq c M M') (h1 : ¬ c 20 16) (h2 : ∀ j, ¬ c 39 j) : TX n b M' := ⟨h.1, by rw [f.i _ _ h1]; exact h.2.1, fun k hk => by rw [f.i _ _ (h2 k)]; exact h.2.2 k hk⟩
theorem TY.fr (h : TY n b M) (f : Fq c M M') (h1 : ¬ c 72 10) (h2 : ∀ j, ¬ c 78 j) : TY n b M' := ⟨h.1, by rw [f.i _ _ h1]; exact h.2.1, fun k hk => by rw [f.i _ _ (h2 k)]; exact h.2.2 k hk⟩
theorem slt.fr (f : Fq c M M') (h1 : ∀ j, ¬ c 51 j) (h2 : ∀ j, ¬ c 69 j) (s : Nat) : slt M' s = slt M s := by
  unfold slt
  rw [f.r _ _ (h1 s), f.r _ _ (h2 (s - 12))]
theorem DX.fr (h : DX M) (f : Fq c M M') (h1 : ∀ j, ¬ c 51 j) (h2 : ∀ j, ¬ c 69 j) (h3 : ∀ o j, 105 ≤ o → j < 4 → ¬ c o j) : DX M' := by
  intro s hs a ha
  rw [slt.fr f h1 h2] at ha
  obtain ⟨⟨g1, g2⟩, g3⟩ := h s hs a ha
  refine ⟨⟨by rw [f.1]; exact g1, g2.fr f (fun j hj => h3 a j g1.1 hj)⟩, fun s' hs' hn => ?_⟩
  rw [slt.fr f h1 h2]
  exact g3 s' hs' hn
theorem UX.fr (h : UX C n U M) (hd : DX M) (f : Fq c M M') (h1 : ∀ j, ¬ c 51 j) (h2 : ¬ c 20 43) (h3 : ∀ o j, 105 ≤ o → ¬ c o j) : UX C n U M' := by
  refine ⟨h.1, by rw [f.i _ _ h2]; exact h.2.1, fun k hk => ?_⟩
  have hn := h.1
  obtain ⟨g0, a, g1, g2⟩ := h.2.2 k hk
  have g3 := (hd k (by omega) a (by unfold slt; rw [if_pos (by omega)]; exact g1)).1.1.1
  exact ⟨g0, a, by rw [f.r _ _ (h1 k)]; exact g1, g2.fr f (fun o j q => h3 o j (by unfold rdc at q; omega))⟩
theorem UY.fr (h : UY n U M) (f : Fq c M M') (h1 : ∀ j, ¬ c 87 j) (h2 : ¬ c 72 29) : UY n U M' := ⟨by rw [f.i _ _ h2]; exact h.1, fun k hk j hj => by rw [f.i _ _ (h1 _)]; exact h.2 k hk j hj⟩
theorem KX.fr (h : KX C ch K M) (hd : DX M) (f : Fq c M M') (h1 : ∀ j, ¬ c 69 j) (h4 : ∀ j, ¬ c 70 j) (h2 : ¬ c 20 14) (h3 : ∀ o j, 105 ≤ o → ¬ c o j) : KX C ch K M' := by
  refine ⟨h.1, by rw [f.i _ _ h2]; exact h.2.1, fun i hi => ⟨fun q => by rw [f.r _ _ (h1 i)]; exact (h.2.2 i hi).1 q, fun q => ?_⟩⟩
  obtain ⟨g1, g2, g3, a, g4, g5⟩ := (h.2.2 i hi).2 q
  have g6 := (hd (12 + i) (by omega) a (by unfold slt; rw [if_neg (by omega), show 12 + i - 12 = i by omega]; exact g4)).1.1.1
  exact ⟨g1, g2, by rw [f.i _ _ (h4 i)]; exact g3, a, by rw [f.r _ _ (h1 i)]; exact g4, g5.fr f (fun o j q => h3 o j (by unfold rdc at q; omega))⟩
theorem KY.fr (h : KY ch K M) (f : Fq c M M') (h1 : ∀ o j, 101 ≤ o → o ≤ 103 → ¬ c o j) (h2 : ¬ c 72 52) : KY ch K M' := by
  refine ⟨by rw [f.i _ _ h2]; exact h.1, fun i hi => ⟨fun q => by rw [f.i _ _ (h1 _ _ (by omega) (by omega))]; exact (h.2 i hi).1 q, fun q => ?_⟩⟩
  obtain ⟨g1, g2, g3⟩ := (h.2 i hi).2 q
  exact ⟨by rw [f.i _ _ (h1 _ _ (by omega) (by omega))]; exact g1, by rw [f.i _ _ (h1 _ _ (by omega) (by omega))]; exact g2, fun j hj => by rw [f.i _ _ (h1 _ _ (by omega) (by omega))]; exact g3 j hj⟩
theorem LX.fr (h : LX l M) (f : Fq c M M') (h1 : ¬ c 20 67) (h2 : ∀ j, ¬ c 71 j) : LX l M' := ⟨by rw [f.i _ _ h1]; exact h.1, fun k hk => by rw [f.l _ _ (h2 k)]; exact h.2 k hk⟩
theorem LY.fr (h : LY l M) (f : Fq c M M') (h1 : ¬ c 72 12) (h2 : ∀ j, ¬ c 79 j) : LY l M' := ⟨by rw [f.i _ _ h1]; exact h.1, fun k hk => by rw [f.l _ _ (h2 k)]; exact h.2 k hk⟩
end
def RV (C : SV) (A : Nat → Int32) (nT : Nat) (bT : Nat → Nat) (nU : Nat) (U : Nat → Nat → Int32) (ch : Nat) (K : Nat → Bool × (Nat → Int32) × Nat) (l : List Int64) (M : PM) : Prop :=
  (CX C M ∧ CY 83 C M ∧ M.r 72 23 = some 84) ∧ (RvX 21 A M ∧ RvY 73 A M ∧ OKA C A) ∧ (TX nT bT M ∧ TY nT bT M) ∧ (UX C nU U M ∧ UY nU U M) ∧ (KX C ch K M ∧ KY ch K M) ∧ (LX l M ∧ LY l M ∧ l.length ≤ 15) ∧ DX M
def RR (kb : Nat) (M : PM) : Prop := ∃ C A nT bT nU U, ∃ ch : {c : Nat // c ≤ kb}, ∃ K l, RV C A nT bT nU U ch K l M
section
variable {C : SV} {A : Nat → Int32} {M M1 M2 : PM} {nT nU ch : Nat} {bT : Nat → Nat} {U : Nat → Nat → Int32} {K : Nat → Bool × (Nat → Int32) × Nat} {l l' : List Int64}
theorem RV.x (h : RV C A nT bT nU U ch K l M) : CX C M := h.1.1
theorem RV.y (h : RV C A nT bT nU U ch K l M) : CY 83 C M := h.1.2.1
theorem RV.a (h : RV C A nT bT nU U ch K l M) : RvX 21 A M := h.2.1.1
theorem RV.b (h : RV C A nT bT nU U ch K l M) : RvY 73 A M := h.2.1.2.1
theorem RV.ok (h : RV C A nT bT nU U ch K l M) : OKA C A := h.2.1.2.2
theorem RV.lx (h : RV C A nT bT nU U ch K l M) : LX l M := h.2.2.2.2.2.1.1
theorem RV.ly (h : RV C A nT bT nU U ch K l M) : LY l M := h.2.2.2.2.2.1.2.1
theorem RV.l15 (h : RV C A nT bT nU U ch K l M) : l.length ≤ 15 := h.2.2.2.2.2.1.2.2
/-- behind a query of the system: all but its rows is as it was -/
theorem CX.fx (h : CX C M) (f : Fq xq M M1) : CX C M1 := h.fr f shR_xq (fun o j q => by unfold xq ts; omega)
theorem CX.fy (h : CX C M) (f : Fq yq M M1) : CX C M1 := h.fr f shR_yq (fun o j q => by unfold yq ts; omega)
theorem CY.fx (h : CY 83 C M) (f : Fq xq M M1) : CY 83 C M1 := h.fr f shR_xq (fun o j q => by unfold xq ts; omega)
theorem CY.fy (h : CY 83 C M) (f : Fq yq M M1) : CY 83 C M1 := h.fr f shR_yq (fun o j q => by unfold yq ts; omega)
theorem RV.q (h : RV C A nT bT nU U ch K l M) (f : Fq xq M M1) (g : Fq yq M1 M2) (hx : LX l' M1) (hy : LY l' M2) (h15 : l'.length ≤ 15) : RV C A nT bT nU U ch K l' M2 := by
  obtain ⟨⟨a1, a2, a3⟩, ⟨b1, b2, b3⟩, ⟨c1, c2⟩, ⟨d1, d2⟩, ⟨e1, e2⟩, -, k1⟩ := h
  have k2 : DX M1 := k1.fr f (fun j => by unfold xq ts; omega) (fun j => by unfold xq ts; omega) (fun o j q _ => by unfold xq ts; omega)
  have k3 : DX M2 := k2.fr g (fun j => by unfold yq ts; omega) (fun j => by unfold yq ts; omega) (fun o j q _ => by unfold yq ts; omega)
  refine ⟨⟨(a1.fx f).fy g, (a2.fx f).fy g, ?_⟩, ⟨(b1.fr f (fun o j q => ?_)).fr g (fun o j q => ?_), (b2.fr f (fun j => ?_)).fr g (fun j => ?_), b3⟩, ⟨(c1.fr f ?_ (fun j => ?_)).fr g ?_ (fun j => ?_), (c2.fr f ?_ (fun j => ?_)).fr g ?_ (fun j => ?_)⟩, ⟨(d1.fr k1 f (fun j => ?_) ?_ (fun o j q => ?_)).fr k2 g (fun j => ?_) ?_ (fun o j q => ?_), (d2.fr f (fun j => ?_) ?_).fr g (fun j => ?_) ?_⟩,
    ⟨(e1.fr k1 f (fun j => ?_) (fun j => ?_) ?_ (fun o j q => ?_)).fr k2 g (fun j => ?_) (fun j => ?_) ?_ (fun o j q => ?_), (e2.fr f (fun o j q1 q2 => ?_) ?_).fr g (fun o j q1 q2 => ?_) ?_⟩, ⟨hx.fr g ?_ (fun j => ?_), hy, h15⟩, k3⟩
  · rw [g.r _ _ (by unfold yq ts; omega), f.r _ _ (by unfold xq ts; omega)]; exact a3
  all_goals first | (unfold rdc at q; unfold xq ts; omega) | (unfold rdc at q; unfold yq ts; omega) | (unfold xq ts; omega) | (unfold yq ts; omega)
end
/-- a call: both answer the same, and hold alike again -/
def Call (fx fm : PM → Option (Int32 × PM)) : Prop := ∀ kb M, RR kb M → ∃ v M1 M2, fx M = some (v, M1) ∧ fm M1 = some (v, M2) ∧ RR kb M2 ∧ M2.n ≤ M.n + 500 ∧ M2.w ≤ M.w + 5000
/-- a query: each side for itself -/
def QX (C : SV) (A : Nat → Int32) (l l' : List Int64) (v : Int32) (f : PM → Option (Int32 × PM)) : Prop := ∀ M, CX C M → RvX 21 A M → OKA C A → LX l M → ∃ M1, f M = some (v, M1) ∧ Fq xq M M1 ∧ LX l' M1
def QY (C : SV) (A : Nat → Int32) (l l' : List Int64) (v : Int32) (f : PM → Option (Int32 × PM)) : Prop := ∀ M, CY 83 C M → RvY 73 A M → OKA C A → LY l M → ∃ M1, f M = some (v, M1) ∧ Fq yq M M1 ∧ LY l' M1
theorem Call.of {fx fm : PM → Option (Int32 × PM)} (h : ∀ C A l, OKC C → OKA C A → l.length ≤ 15 → ∃ v l', l'.length ≤ 15 ∧ QX C A l l' v fx ∧ QY C A l l' v fm) : Call fx fm := by
  rintro kb M ⟨C, A, nT, bT, nU, U, ch, K, l, hR⟩
  obtain ⟨v, l', h1, h2, h3⟩ := h C A l hR.x.ok hR.ok hR.l15
  obtain ⟨M1, e1, f1, l1⟩ := h2 M hR.x hR.a hR.ok hR.lx
  have y1 : CY 83 C M1 := hR.y.fx f1
  have b1 : RvY 73 A M1 := hR.b.fr f1 (fun j => by unfold xq ts; omega)
  have ly1 : LY l M1 := hR.ly.fr f1 (by unfold xq ts; omega) (fun j => by unfold xq ts; omega)
  obtain ⟨M2, e2, f2, l2⟩ := h3 M1 y1 b1 hR.ok ly1
  refine ⟨v, M1, M2, e1, e2, ⟨C, A, nT, bT, nU, U, ch, K, l', hR.q f1 f2 l1 l2 h1⟩, ?_, ?_⟩
  · rw [f2.1, f1.1]; omega
  · rw [f2.2.1, f1.2.1]; omega
/-! rows that are told -/
abbrev rwx (o j : Nat) : Prop := (o = 20 ∧ j = 67) ∨ o = 71
abbrev rwy (o j : Nat) : Prop := (o = 72 ∧ j = 12) ∨ o = 79
theorem Fq.wx {M M1 : PM} (f : Fq rwx M M1) : Fq xq M M1 := f.mo (fun o j q => by unfold rwx at q; unfold xq; omega)
theorem Fq.wy {M M1 : PM} (f : Fq rwy M M1) : Fq yq M M1 := f.mo (fun o j q => by unfold rwy at q; unfold yq; omega)
theorem getD_app (l : List Int64) (v : Int64) (k : Nat) : (l ++ [v]).getD k 0 = if k < l.length then l.getD k 0 else if k = l.length then v else 0 := by
  rw [List.getD_eq_getElem?_getD, List.getD_eq_getElem?_getD]
  by_cases h : k < l.length
  · rw [if_pos h, List.getElem?_append_left h]
  · rw [if_neg h, List.getElem?_append_right (by omega)]
    by_cases g : k = l.length
    · subst g
      rw [if_pos rfl]
      simp
    · rw [if_neg g]
      have : 1 ≤ k - l.length := by omega
      rw [List.getElem?_eq_none (by simpa using this)]
      rfl
theorem xs_tells {l : List Int64} {M : PM} (h : LX l M) (hl : l.length < 16) (v : Int64) : ∃ M1, x_tells v M = some ((), M1) ∧ Fq rwx M M1 ∧ LX (l ++ [v]) M1 := by
  obtain ⟨h1, h2⟩ := h
  refine ⟨(M.sl 71 l.length v).si 20 67 (zn (l.length + 1)), ?_, (Fq.rf.sl (by unfold rwx; omega)).si (by unfold rwx; omega), ?_, fun k hk => ?_⟩
  · simp (disch := omega) only [x_tells, ↓lt_u, ↓jn_u, ↓bd_s, bd_s, ↓rf_s, rf_s, ↓nl_s, ↓nl_n, nl_s, nl_n, ↓reduceIte, ↓ckb24, ↓ckb256, ckb_T, ckb01, ↓ck_zn, ↓ck_l, ck_zn, ck_l, vsi_i, vsi_l, vsi_r, vsi_k, vsi_n, vsi_w, vsl_i, vsl_l, vsl_r, vsl_k, vsl_n, vsl_w, vsr_i, vsr_l, vsr_r, vsr_k, vsr_n, vsr_w, and_self, and_true, true_and, and_false, false_and, or_self, or_true, true_or, or_false, false_or, not_true_eq_false, not_false_eq_true, ne_eq, eq_self, reduceCtorEq, Nat.reduceEqDiff, Nat.reduceAdd, Nat.reduceMul, Nat.reduceSub, Nat.reduceLT, Nat.reduceLeDiff, Nat.reduceDiv, Nat.add_zero, Nat.zero_add, Nat.not_lt_zero, Nat.zero_le, Nat.le_refl, Nat.lt_irrefl, l_eq_l, m_eq_l, l_eq_m, Int32.reduceLT, Int32.reduceLE, Int32.reduceAdd, Int32.reduceSub, Int32.reduceMul, b01_0, b01_1, b10_0, z_ne_o, o_ne_z, zn_add, zn_addl, zn_ladd, zn_mull, zn_subl, ix_zn, ix_l, ck_zn, ck_l, zn_le, zn_le_l, l_le_zn, zn_lt, zn_lt_l, l_lt_zn, zn_eq, zn_eq_l, l_eq_zn, zn_eq_m, m_eq_zn, m_le_zn, zn_lt_m, imin_zn, imax_zn, zn_le_m, h1]
  · rw [si_i, if_pos ⟨rfl, rfl⟩, List.length_append]; rfl
  · rw [List.length_append] at hk
    have hk' : k < l.length + 1 := hk
    rw [getD_app, si_l, sl_l]
    by_cases e : k = l.length
    · rw [if_pos ⟨rfl, e⟩, if_neg (by omega), if_pos e]
    · rw [if_neg (by omega), if_pos (by omega)]; exact h2 k (by omega)
theorem ms_tell {l : List Int64} {M : PM} (h : LY l M) (hl : l.length < 20) (v : Int64) : ∃ M1, m_tell v M = some ((), M1) ∧ Fq rwy M M1 ∧ LY (l ++ [v]) M1 := by
  obtain ⟨h1, h2⟩ := h
  refine ⟨(M.sl 79 l.length v).si 72 12 (zn (l.length + 1)), ?_, (Fq.rf.sl (by unfold rwy; omega)).si (by unfold rwy; omega), ?_, fun k hk => ?_⟩
  · simp (disch := omega) only [m_tell, ↓lt_u, ↓jn_u, ↓bd_s, bd_s, ↓rf_s, rf_s, ↓nl_s, ↓nl_n, nl_s, nl_n, ↓reduceIte, ↓ckb24, ↓ckb256, ckb_T, ckb01, ↓ck_zn, ↓ck_l, ck_zn, ck_l, vsi_i, vsi_l, vsi_r, vsi_k, vsi_n, vsi_w, vsl_i, vsl_l, vsl_r, vsl_k, vsl_n, vsl_w, vsr_i, vsr_l, vsr_r, vsr_k, vsr_n, vsr_w, and_self, and_true, true_and, and_false, false_and, or_self, or_true, true_or, or_false, false_or, not_true_eq_false, not_false_eq_true, ne_eq, eq_self, reduceCtorEq, Nat.reduceEqDiff, Nat.reduceAdd, Nat.reduceMul, Nat.reduceSub, Nat.reduceLT, Nat.reduceLeDiff, Nat.reduceDiv, Nat.add_zero, Nat.zero_add, Nat.not_lt_zero, Nat.zero_le, Nat.le_refl, Nat.lt_irrefl, l_eq_l, m_eq_l, l_eq_m, Int32.reduceLT, Int32.reduceLE, Int32.reduceAdd, Int32.reduceSub, Int32.reduceMul, b01_0, b01_1, b10_0, z_ne_o, o_ne_z, zn_add, zn_addl, zn_ladd, zn_mull, zn_subl, ix_zn, ix_l, ck_zn, ck_l, zn_le, zn_le_l, l_le_zn, zn_lt, zn_lt_l, l_lt_zn, zn_eq, zn_eq_l, l_eq_zn, zn_eq_m, m_eq_zn, m_le_zn, zn_lt_m, imin_zn, imax_zn, zn_le_m, h1]
  · rw [si_i, if_pos ⟨rfl, rfl⟩, List.length_append]; rfl
  · rw [List.length_append] at hk
    have hk' : k < l.length + 1 := hk
    rw [getD_app, si_l, sl_l]
    by_cases e : k = l.length
    · rw [if_pos ⟨rfl, e⟩, if_neg (by omega), if_pos e]
    · rw [if_neg (by omega), if_pos (by omega)]; exact h2 k (by omega)
theorem lx0 (M : PM) : LX [] (M.si 20 67 0) := ⟨by rw [si_i, if_pos ⟨rfl, rfl⟩]; rfl, fun k hk => absurd hk (Nat.not_lt_zero k)⟩
theorem ly0 (M : PM) : LY [] (M.si 72 12 0) := ⟨by rw [si_i, if_pos ⟨rfl, rfl⟩]; rfl, fun k hk => absurd hk (Nat.not_lt_zero k)⟩
theorem Fq.x {M M1 : PM} (f : Fq ca M M1) : Fq xq M M1 := f.mo (fun o j q => Or.inl (ca_ts o j q))
theorem Fq.y {M M1 : PM} (f : Fq ca M M1) : Fq yq M M1 := f.mo (fun o j q => Or.inl (ca_ts o j q))
theorem LX.fa {l : List Int64} {M M1 : PM} (h : LX l M) (f : Fq ca M M1) : LX l M1 := h.fr f (by unfold ca; omega) (fun j => by unfold ca; omega)
theorem LY.fa {l : List Int64} {M M1 : PM} (h : LY l M) (f : Fq ca M M1) : LY l M1 := h.fr f (by unfold ca; omega) (fun j => by unfold ca; omega)
