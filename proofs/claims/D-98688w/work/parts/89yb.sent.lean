set_option maxRecDepth 100000
/-! SENTENCES: the costs are worked out -/
theorem b9 : (1000000000 : Int32) = zn 1000000000 := by decide
theorem b8f : (100000000 : Int32) = zn 100000000 := by decide
section
variable {C : SV} {A : Nat → Int32} {M M1 : PM} {b : Nat → Nat} {n i w s : Nat}
theorem cfS_le {I : Nat} {st hr : Int32} {p : Nat × Nat} : cfS I C b n st hr i p w ≤ I := by
  unfold cfS
  split
  · exact Nat.le_refl _
  · exact Nat.min_le_left _ _
/-- the costs of the places behind i -/
def rsX (I o : Nat) (C : SV) (b : Nat → Nat) (n : Nat) (st hr : Int32) (i : Nat) (M : PM) : Prop := ∀ j, i ≤ j → j ≤ n → M.i o j = zn (VP I C b n st hr (n - j)).1
theorem rs_p {I o : Nat} {st hr : Int32} (hi : i < n) (h : rsX I o C b n st hr (i + 1) M) : M.i o (i + 1) = zn (VP I C b n st hr (n - (i + 1))).1 ∧ (i + 1 < n → M.i o (i + 2) = zn (VP I C b n st hr (n - (i + 1))).2) := by
  refine ⟨h (i + 1) (Nat.le_refl _) (by omega), fun g => ?_⟩
  rw [h (i + 2) (by omega) (by omega)]
  obtain ⟨d, hd⟩ : ∃ d, n - (i + 1) = d + 1 := ⟨n - (i + 2), by omega⟩
  rw [hd, show n - (i + 2) = d by omega]
  rfl
theorem xs_costFrom (h : CX C M) (ha : RvX 21 A M) (hd : dgs b n) (hX : dgX b n M) (hw : w < C.nw) (hi : i < n) (hr : rsX 1000000000 60 C b n (zn s) (A 12) (i + 1) M) : ∃ M', x_costFrom (zn w) (zn i) (zn s) M = some (zn (cfS 1000000000 C b n (zn s) (A 12) i (VP 1000000000 C b n (zn s) (A 12) (n - (i + 1))) w), M') ∧ Fq ca M M' := by
  have n12 := hd.1
  obtain ⟨r1, r2⟩ := rs_p hi hr
  obtain ⟨t1, t2⟩ := tN_e h.ok hw (zn s) (A 12)
  obtain ⟨l1, l2⟩ := VP_le (C := C) (b := b) (n := n) (st := zn s) (hr := A 12) (I := 1000000000) (n - (i + 1))
  obtain ⟨k1, k2⟩ := tlS_2 (C := C) (b := b) (n := n) (i := i) (w := w)
  have et := xs_tellsFrom h hd hX hw hi
  generalize VP 1000000000 C b n (zn s) (A 12) (n - (i + 1)) = p at r1 r2 l1 l2 ⊢
  unfold x_costFrom cfS
  rw [bde et]
  by_cases g : tlS C b n i w = 0
  · rw [g, if_pos rfl, if_pos (show zn 0 = 0 from rfl)]
    exact ⟨M, by rw [b9], Fq.rf⟩
  · rw [if_neg (by rw [zn_eq_l (by omega) (by omega)]; exact g), if_neg g]
    obtain ⟨M2, e2, f2⟩ := xs_tollNow h hw (zn s)
    rw [hx12 ha, t1] at e2
    refine ⟨M2, ?_, f2⟩
    rw [bde e2, zn_add, ck_zn (by omega) (by omega), ix_zn (by omega), f2.i _ _ (by unfold ca; omega), b9]
    by_cases g1 : tlS C b n i w = 1
    · rw [g1, if_pos rfl, r1, zn_add, imin_zn (by omega) (by omega)]
    · have g2 : tlS C b n i w = 2 := by omega
      rw [g2, if_neg (by decide), r2 (k2 g2), zn_add, imin_zn (by omega) (by omega)]
theorem xs_costs (h : CX C M) (ha : RvX 21 A M) (hd : dgs b n) (hX : dgX b n M) (hi : i < n) (hr : rsX 1000000000 60 C b n (zn s) (A 12) (i + 1) M) (h60 : M.i 60 i = zn 1000000000) (Kc : PM → Option (Int32 × PM)) : ∃ M', x_sentence_L123 (zn s) (zn i) Kc FU 0 M = Kc M' ∧ Fq (fun o j => ca o j ∨ (o = 60 ∧ j = i)) M M' ∧ M'.i 60 i = zn (VP 1000000000 C b n (zn s) (A 12) (n - i)).1 := by
  have b1 := h.ok.nw10
  have n12 := hd.1
  have ev : (VP 1000000000 C b n (zn s) (A 12) (n - i)).1 = mnS 1000000000 C b n (zn s) (A 12) i (VP 1000000000 C b n (zn s) (A 12) (n - (i + 1))) C.nw := by
    rw [show n - i = (n - (i + 1)) + 1 by omega]
    show mnS 1000000000 C b n (zn s) (A 12) (n - ((n - (i + 1)) + 1)) (VP 1000000000 C b n (zn s) (A 12) (n - (i + 1))) C.nw = _
    rw [show n - ((n - (i + 1)) + 1) = i by omega]
  rw [ev]
  have sc : ∀ q ∈ shR, ¬ (ca q.1 q.2.1 ∨ (q.1 = 60 ∧ q.2.1 = i)) := fun q hq w => by
    rcases w with w | w
    · exact shR_ca q hq w
    · have h2 : ∀ q ∈ shR, ¬ q.1 = 60 := by decide +kernel
      exact h2 q hq w.1
  refine wlp (fun nn k (_ : Unit) M2 => x_sentence_L123 (zn s) (zn i) Kc nn (zn k) M2) C.nw FU (FU_lt (by omega)) (fun _ s => s) () (fun k M2 => Fq (fun o j => ca o j ∨ (o = 60 ∧ j = i)) M M2 ∧ M2.i 60 i = zn (mnS 1000000000 C b n (zn s) (A 12) i (VP 1000000000 C b n (zn s) (A 12) (n - (i + 1))) k)) (fun o => ∃ M', o = Kc M' ∧ Fq (fun o j => ca o j ∨ (o = 60 ∧ j = i)) M M' ∧ M'.i 60 i = zn (mnS 1000000000 C b n (zn s) (A 12) i (VP 1000000000 C b n (zn s) (A 12) (n - (i + 1))) C.nw)) (fun nn k M2 hk hI => ?_) (fun nn M2 hI => ?_) M ⟨Fq.rf, h60⟩
  · obtain ⟨f, v⟩ := hI
    have x2 : CX C M2 := h.fr f sc (fun o j q => by unfold ca; omega)
    have a2 : RvX 21 A M2 := ha.fr f (fun o j q => by unfold rdc at q; unfold ca; omega)
    have X2 : dgX b n M2 := ⟨(f.i _ _ (by unfold ca; omega)).trans hX.1, fun j hj => (f.i _ _ (by unfold ca; omega)).trans (hX.2 j hj)⟩
    have r2 : rsX 1000000000 60 C b n (zn s) (A 12) (i + 1) M2 := fun j h1 h2 => by rw [f.i _ _ (by unfold ca; omega)]; exact hr j h1 h2
    obtain ⟨M3, e3, f3⟩ := xs_costFrom x2 a2 hd X2 hk hi r2
    have m1 := mnS_le (C := C) (b := b) (n := n) (st := zn s) (hr := A 12) (I := 1000000000) (i := i) (p := VP 1000000000 C b n (zn s) (A 12) (n - (i + 1))) k
    have m2 := cfS_le (C := C) (b := b) (n := n) (st := zn s) (hr := A 12) (I := 1000000000) (i := i) (w := k) (p := VP 1000000000 C b n (zn s) (A 12) (n - (i + 1)))
    obtain ⟨M5, hM5⟩ : ∃ M5, M5 = M3.si 60 i (zn (mnS 1000000000 C b n (zn s) (A 12) i (VP 1000000000 C b n (zn s) (A 12) (n - (i + 1))) (k + 1))) := ⟨_, rfl⟩
    refine ⟨M5, ⟨f.tr ?_, by rw [hM5, si_i, if_pos ⟨rfl, rfl⟩]⟩, ?_⟩
    · rw [hM5]
      exact Fq.si (c := fun o j => ca o j ∨ (o = 60 ∧ j = i)) (f3.mo (fun o j q => Or.inl q)) (Or.inr ⟨rfl, rfl⟩)
    · show x_sentence_L123 (zn s) (zn i) Kc (nn + 1) (zn k) M2 = x_sentence_L123 (zn s) (zn i) Kc nn (zn (k + 1)) M5
      rw [x_sentence_L123, x2.nw, if_neg (by rw [zn_le (by omega) (by omega)]; omega), ck_zn (by omega) (by omega), bde e3, ck_zn (by omega) (by omega), ix_zn (by omega), v, imin_zn (by omega) (by omega), zn_addl, lt_u, lt_u, hM5]
      rfl
  · obtain ⟨f, v⟩ := hI
    have x2 : CX C M2 := h.fr f sc (fun o j q => by unfold ca; omega)
    refine ⟨M2, ?_, f, v⟩
    show x_sentence_L123 (zn s) (zn i) Kc (nn + 1) (zn C.nw) M2 = _
    rw [x_sentence_L123, x2.nw, if_pos (Int32.le_refl _)]
abbrev csX (o j : Nat) : Prop := ca o j ∨ o = 60
theorem shR_csX : ∀ q ∈ shR, ¬ csX q.1 q.2.1 := by decide +kernel
theorem xs_allCosts (hd : dgs b n) (Kc : PM → Option (Int32 × PM)) : ∀ i, i < n → ∀ f M, i + 1 < f → CX C M → RvX 21 A M → dgX b n M → rsX 1000000000 60 C b n (zn s) (A 12) (i + 1) M → ∃ M', x_sentence_L108 (zn s) Kc f (zn i) M = Kc M' ∧ Fq csX M M' ∧ rsX 1000000000 60 C b n (zn s) (A 12) 0 M' := by
  intro i
  induction i with
  | zero =>
    intro hi f M hf hx ha hX hr
    obtain ⟨f, rfl⟩ : ∃ m, f = m + 1 + 1 := ⟨f - 2, by omega⟩
    have n12 := hd.1
    obtain ⟨N, hN⟩ : ∃ N, N = M.si 60 0 (zn 1000000000) := ⟨_, rfl⟩
    have fN : Fq csX M N := by rw [hN]; exact Fq.si (c := csX) Fq.rf (Or.inr rfl)
    have fN' : Fq (fun o j => o = 60 ∧ j = 0) M N := by rw [hN]; exact Fq.si (c := fun o j => o = 60 ∧ j = 0) Fq.rf ⟨rfl, rfl⟩
    obtain ⟨Kd, hKd⟩ : ∃ Kd : PM → Option (Int32 × PM), Kd = (fun (M18 : PM) => lt (zn 0 + (-1)) fun v10 => x_sentence_L108 (zn s) Kc (f + 1) v10 M18) := ⟨_, rfl⟩
    obtain ⟨M2, e2, f2, v2⟩ := xs_costs (hx.fr fN shR_csX (fun o j q => by unfold csX ca; omega)) (ha.fr fN (fun o j q => by unfold rdc at q; unfold csX ca; omega)) hd ⟨(fN.i _ _ (by unfold csX ca; omega)).trans hX.1, fun j hj => (fN.i _ _ (by unfold csX ca; omega)).trans (hX.2 j hj)⟩ hi (fun j h1 h2 => by rw [fN'.i _ _ (by omega)]; exact hr j h1 h2) (by rw [hN, si_i, if_pos ⟨rfl, rfl⟩]) Kd
    have f2c : Fq csX N M2 := f2.mo (fun o j q => q.elim Or.inl (fun w => Or.inr w.1))
    refine ⟨M2, ?_, fN.tr f2c, fun j h1 h2 => ?_⟩
    · rw [x_sentence_L108, if_neg (by decide), ck_zn (by omega) (by omega), ix_zn (by omega), b9, lt_u, ← hN, ← hKd, show (0 : Int32) = zn 0 from rfl] 
      rw [show zn 0 = (0 : Int32) from rfl] at e2 ⊢
      rw [e2, hKd]
      simp only [lt_u]
      rw [x_sentence_L108, if_pos (by decide)]
    · rcases Nat.eq_zero_or_pos j with e | e
      · subst e; exact v2
      · rw [f2.i _ _ (by unfold ca; omega), fN'.i _ _ (by omega)]; exact hr j (by omega) h2
  | succ i ih =>
    intro hi f M hf hx ha hX hr
    obtain ⟨f, rfl⟩ : ∃ m, f = m + 1 := ⟨f - 1, by omega⟩
    have n12 := hd.1
    obtain ⟨N, hN⟩ : ∃ N, N = M.si 60 (i + 1) (zn 1000000000) := ⟨_, rfl⟩
    have fN : Fq csX M N := by rw [hN]; exact Fq.si (c := csX) Fq.rf (Or.inr rfl)
    have fN' : Fq (fun o j => o = 60 ∧ j = i + 1) M N := by rw [hN]; exact Fq.si (c := fun o j => o = 60 ∧ j = i + 1) Fq.rf ⟨rfl, rfl⟩
    obtain ⟨Kd, hKd⟩ : ∃ Kd : PM → Option (Int32 × PM), Kd = (fun (M18 : PM) => lt (zn (i + 1) + (-1)) fun v10 => x_sentence_L108 (zn s) Kc f v10 M18) := ⟨_, rfl⟩
    have xN := hx.fr fN shR_csX (fun o j q => by unfold csX ca; omega)
    have aN : RvX 21 A N := ha.fr fN (fun o j q => by unfold rdc at q; unfold csX ca; omega)
    have XN : dgX b n N := ⟨(fN.i _ _ (by unfold csX ca; omega)).trans hX.1, fun j hj => (fN.i _ _ (by unfold csX ca; omega)).trans (hX.2 j hj)⟩
    obtain ⟨M2, e2, f2, v2⟩ := xs_costs xN aN hd XN hi (fun j h1 h2 => by rw [fN'.i _ _ (by omega)]; exact hr j h1 h2) (by rw [hN, si_i, if_pos ⟨rfl, rfl⟩]) Kd
    have f2c : Fq csX N M2 := f2.mo (fun o j q => q.elim Or.inl (fun w => Or.inr w.1))
    obtain ⟨M3, e3, f3, r3⟩ := ih (by omega) f M2 (by omega) (xN.fr f2c shR_csX (fun o j q => by unfold csX ca; omega)) (aN.fr f2c (fun o j q => by unfold rdc at q; unfold csX ca; omega)) ⟨(f2c.i _ _ (by unfold csX ca; omega)).trans XN.1, fun j hj => (f2c.i _ _ (by unfold csX ca; omega)).trans (XN.2 j hj)⟩ (fun j h1 h2 => by
      by_cases e : j = i + 1
      · subst e; exact v2
      · rw [f2.i _ _ (by unfold ca; omega), fN'.i _ _ (by omega)]; exact hr j (by omega) h2)
    refine ⟨M3, ?_, (fN.tr f2c).tr f3, r3⟩
    have em : zn (i + 1) + (-1) = zn i := by
      rw [← zn_add i 1, Int32.add_assoc, show zn 1 + (-1 : Int32) = 0 by decide, Int32.add_zero]
    rw [x_sentence_L108, if_neg (Int32.not_lt.mpr (zn_nonneg (by omega))), ck_zn (by omega) (by omega), ix_zn (by omega), b9, lt_u, ← hN, ← hKd, e2, hKd]
    simp only [lt_u, em]
    exact e3
end
