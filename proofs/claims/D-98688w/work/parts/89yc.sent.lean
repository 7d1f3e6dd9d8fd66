set_option maxRecDepth 100000
/-! SENTENCES: the words that are told -/
def PS (I : Nat) (C : SV) (b : Nat → Nat) (n : Nat) (st hr : Int32) (i w : Nat) : Bool := decide (cfS I C b n st hr i (VP I C b n st hr (n - (i + 1))) w = (VP I C b n st hr (n - i)).1)
def wdS (I : Nat) (C : SV) (b : Nat → Nat) (n : Nat) (st hr : Int32) (i : Nat) : Option Nat := ffi (PS I C b n st hr i) C.nw 0
def lsS (I : Nat) (C : SV) (b : Nat → Nat) (n : Nat) (st hr : Int32) : Nat → Nat → List Int64
  | 0, _ => []
  | f + 1, i => if n ≤ i then [] else match wdS I C b n st hr i with
    | none => []
    | some w => (zn w).toInt64 :: lsS I C b n st hr f (i + tlS C b n i w)
theorem ffi_none (P : Nat → Bool) : ∀ d k, ffi P d k = none → ∀ w, k ≤ w → w < k + d → P w = false := by
  intro d
  induction d with
  | zero => intro k _ w h1 h2; omega
  | succ d ih =>
    intro k h w h1 h2
    unfold ffi at h
    by_cases g : P k = true
    · rw [if_pos g] at h; cases h
    · rw [if_neg g] at h
      by_cases e : w = k
      · rw [e]; exact Bool.eq_false_iff.mpr g
      · exact ih (k + 1) h w (by omega) (by omega)
section
variable {C : SV} {b : Nat → Nat} {n i : Nat} {st hr : Int32} {I : Nat}
theorem VP_s (hi : i < n) : (VP I C b n st hr (n - i)).1 = mnS I C b n st hr i (VP I C b n st hr (n - (i + 1))) C.nw := by
  rw [show n - i = (n - (i + 1)) + 1 by omega]
  show mnS I C b n st hr (n - ((n - (i + 1)) + 1)) (VP I C b n st hr (n - (i + 1))) C.nw = _
  rw [show n - ((n - (i + 1)) + 1) = i by omega]
theorem VP_at {w : Nat} (hi : i < n) (hc : cfS I C b n st hr i (VP I C b n st hr (n - (i + 1))) w < I) : tlS C b n i w ≠ 0 ∧ i + tlS C b n i w ≤ n ∧ cfS I C b n st hr i (VP I C b n st hr (n - (i + 1))) w = tN C st hr w + (VP I C b n st hr (n - (i + tlS C b n i w))).1 := by
  obtain ⟨k1, k2⟩ := tlS_2 (C := C) (b := b) (n := n) (i := i) (w := w)
  unfold cfS at hc ⊢
  by_cases g : tlS C b n i w = 0
  · rw [if_pos g] at hc; omega
  · rw [if_neg g] at hc ⊢
    by_cases g1 : tlS C b n i w = 1
    · rw [if_pos g1] at hc ⊢
      rw [g1]
      exact ⟨by omega, by omega, by omega⟩
    · have g2 : tlS C b n i w = 2 := by omega
      rw [if_neg g1] at hc ⊢
      rw [g2]
      have h3 := k2 g2
      have e : (VP I C b n st hr (n - (i + 1))).2 = (VP I C b n st hr (n - (i + 2))).1 := by
        obtain ⟨d, hd⟩ : ∃ d, n - (i + 1) = d + 1 := ⟨n - (i + 2), by omega⟩
        rw [hd, show n - (i + 2) = d by omega]
        rfl
      rw [e] at hc ⊢
      exact ⟨by omega, by omega, by omega⟩
theorem wdS_s (hi : i < n) (hv : (VP I C b n st hr (n - i)).1 < I) : ∃ w, wdS I C b n st hr i = some w ∧ w < C.nw ∧ tlS C b n i w ≠ 0 ∧ i + tlS C b n i w ≤ n ∧ (VP I C b n st hr (n - (i + tlS C b n i w))).1 < I := by
  rcases hw : wdS I C b n st hr i with _ | w
  · exfalso
    rw [VP_s hi] at hv
    obtain ⟨w, h1, h2⟩ := mnS_at C.nw hv
    have := ffi_none _ _ _ hw w (Nat.zero_le _) (by omega)
    unfold PS at this
    rw [VP_s hi, h2] at this
    exact absurd this (by rw [decide_eq_true rfl]; exact fun w => Bool.noConfusion w)
  · obtain ⟨h1, h2⟩ := ffi_lt _ _ _ _ hw
    have h3 : cfS I C b n st hr i (VP I C b n st hr (n - (i + 1))) w = (VP I C b n st hr (n - i)).1 := of_decide_eq_true h2
    obtain ⟨g1, g2, g3⟩ := VP_at hi (show cfS I C b n st hr i (VP I C b n st hr (n - (i + 1))) w < I by omega)
    exact ⟨w, rfl, by omega, g1, g2, by omega⟩
theorem PS_rel {J : Nat} (hC : OKC C) (hn : n ≤ 12) (hI : 594 * 14 < I) (hJ : 594 * 14 < J) (hi : i < n) (hv : (VP I C b n st hr (n - i)).1 < I) {w : Nat} (hw : w < C.nw) : PS I C b n st hr i w = PS J C b n st hr i w := by
  obtain ⟨a1, a2⟩ := VP_rel (b := b) (n := n) (st := st) (hr := hr) hC hI hJ (n - (i + 1)) (by omega)
  obtain ⟨a3, a4⟩ := VP_rel (b := b) (n := n) (st := st) (hr := hr) hC hI hJ (n - i) (by omega)
  have a5 := cfS_rel (b := b) (n := n) (st := st) (hr := hr) (i := i) hC (I := I) (J := J) (K := 594 * (n - (i + 1))) (by omega) (by omega) a1 a2 hw
  unfold PS
  have h6 : 594 * (n - (i + 1)) + 594 ≤ 594 * 12 := by omega
  have h7 : 594 * (n - i) ≤ 594 * 12 := by omega
  unfold relS at a3 a5
  generalize cfS I C b n st hr i (VP I C b n st hr (n - (i + 1))) w = x at a5 ⊢
  generalize cfS J C b n st hr i (VP J C b n st hr (n - (i + 1))) w = y at a5 ⊢
  generalize (VP I C b n st hr (n - i)).1 = u at a3 hv ⊢
  generalize (VP J C b n st hr (n - i)).1 = v at a3 ⊢
  apply decide_eq_decide.mpr
  omega
theorem ffi_eq {P Q : Nat → Bool} : ∀ d k, (∀ w, k ≤ w → w < k + d → P w = Q w) → ffi P d k = ffi Q d k := by
  intro d
  induction d with
  | zero => intro k _; rfl
  | succ d ih =>
    intro k h
    unfold ffi
    rw [h k (Nat.le_refl _) (by omega), ih (k + 1) (fun w h1 h2 => h w (by omega) (by omega))]
theorem lsS_rel {J : Nat} (hC : OKC C) (hn : n ≤ 12) (hI : 594 * 14 < I) (hJ : 594 * 14 < J) : ∀ f i, i ≤ n → (VP I C b n st hr (n - i)).1 < I → lsS I C b n st hr f i = lsS J C b n st hr f i := by
  intro f
  induction f with
  | zero => intro i _ _; rfl
  | succ f ih =>
    intro i hi hv
    unfold lsS
    by_cases g : n ≤ i
    · rw [if_pos g, if_pos g]
    · rw [if_neg g, if_neg g]
      have e : wdS I C b n st hr i = wdS J C b n st hr i := ffi_eq _ _ (fun w h1 h2 => PS_rel hC hn hI hJ (by omega) hv (by omega))
      obtain ⟨w, h1, h2, h3, h4, h5⟩ := wdS_s (show i < n by omega) hv
      rw [← e, h1]
      show _ :: _ = _ :: _
      rw [ih _ h4 h5]
theorem lsS_len : ∀ f i, (lsS I C b n st hr f i).length ≤ f := by
  intro f
  induction f with
  | zero => intro i; exact Nat.le_refl _
  | succ f ih =>
    intro i
    unfold lsS
    by_cases g : n ≤ i
    · rw [if_pos g]; exact Nat.zero_le _
    · rw [if_neg g]
      split
      · exact Nat.zero_le _
      · exact Nat.succ_le_succ (ih _)
end
section
variable {C : SV} {A : Nat → Int32} {M M1 : PM} {b : Nat → Nat} {n i w s : Nat}
theorem xs_find (hd : dgs b n) (hi : i < n) (Kc : Int32 → PM → Option (Int32 × PM)) : ∀ d k f M, k + d = C.nw → d < f → CX C M → RvX 21 A M → dgX b n M → rsX 1000000000 60 C b n (zn s) (A 12) 0 M → ∀ w, ffi (PS 1000000000 C b n (zn s) (A 12) i) d k = some w → ∃ M', x_sentence_L198 (zn s) (zn i) Kc f (zn k) M = Kc (zn w) M' ∧ Fq ca M M' := by
  intro d
  have n12 := hd.1
  induction d with
  | zero => intro k f M _ _ _ _ _ _ w h; cases h
  | succ d ih =>
    intro k f M hk hf hx ha hX hr w h
    have b1 := hx.ok.nw10
    obtain ⟨f, rfl⟩ : ∃ m, f = m + 1 := ⟨f - 1, by omega⟩
    obtain ⟨M2, e2, f2⟩ := xs_costFrom hx ha hd hX (show k < C.nw by omega) hi (fun j h1 h2 => hr j (Nat.zero_le _) h2)
    have hv : M2.i 60 i = zn (VP 1000000000 C b n (zn s) (A 12) (n - i)).1 := by rw [f2.i _ _ (by unfold ca; omega)]; exact hr i (Nat.zero_le _) (by omega)
    have l1 := (VP_le (C := C) (b := b) (n := n) (st := zn s) (hr := A 12) (I := 1000000000) (n - i)).1
    have l2 := cfS_le (C := C) (b := b) (n := n) (st := zn s) (hr := A 12) (I := 1000000000) (i := i) (w := k) (p := VP 1000000000 C b n (zn s) (A 12) (n - (i + 1)))
    unfold ffi at h
    rw [x_sentence_L198, bde e2, ck_zn (by omega) (by omega), ix_zn (by omega), hv]
    by_cases g : cfS 1000000000 C b n (zn s) (A 12) i (VP 1000000000 C b n (zn s) (A 12) (n - (i + 1))) k = (VP 1000000000 C b n (zn s) (A 12) (n - i)).1
    · rw [if_pos (show PS 1000000000 C b n (zn s) (A 12) i k = true from decide_eq_true g)] at h
      cases h
      rw [if_pos (by rw [g])]
      exact ⟨M2, rfl, f2⟩
    · rw [if_neg (show ¬ PS 1000000000 C b n (zn s) (A 12) i k = true from fun w => g (of_decide_eq_true w))] at h
      rw [if_neg (by rw [zn_eq (by omega) (by omega)]; exact g), lt_u, zn_addl]
      obtain ⟨M3, e3, f3⟩ := ih (k + 1) f M2 (by omega) (by omega) (hx.fa f2) (ha.fa f2) ⟨(f2.i _ _ (by unfold ca; omega)).trans hX.1, fun j hj => (f2.i _ _ (by unfold ca; omega)).trans (hX.2 j hj)⟩ (fun j h1 h2 => by rw [f2.i _ _ (by unfold ca; omega)]; exact hr j h1 h2) w h
      exact ⟨M3, e3, f2.tr f3⟩
abbrev crX (o j : Nat) : Prop := ca o j ∨ rwx o j
theorem shR_crX : ∀ q ∈ shR, ¬ crX q.1 q.2.1 := by decide +kernel
theorem xs_tellS (hd : dgs b n) (Kc : PM → Option (Int32 × PM)) : ∀ f i l F M, n - i ≤ f → f < F → i ≤ n → l.length + f ≤ 15 → (VP 1000000000 C b n (zn s) (A 12) (n - i)).1 < 1000000000 → CX C M → RvX 21 A M → dgX b n M → rsX 1000000000 60 C b n (zn s) (A 12) 0 M → LX l M → ∃ M', x_sentence_L188 (zn s) Kc F (zn i) M = Kc M' ∧ Fq crX M M' ∧ LX (l ++ lsS 1000000000 C b n (zn s) (A 12) f i) M' := by
  intro f
  have n12 := hd.1
  induction f with
  | zero =>
    intro i l F M h1 h2 hi hl hv hx ha hX hr hL
    obtain ⟨F, rfl⟩ : ∃ m, F = m + 1 := ⟨F - 1, by omega⟩
    refine ⟨M, ?_, Fq.rf, by unfold lsS; rw [List.append_nil]; exact hL⟩
    rw [x_sentence_L188, hX.1, if_pos (by rw [zn_le (by omega) (by omega)]; omega)]
  | succ f ih =>
    intro i l F M h1 h2 hi hl hv hx ha hX hr hL
    obtain ⟨F, rfl⟩ : ∃ m, F = m + 1 := ⟨F - 1, by omega⟩
    unfold lsS
    by_cases g : n ≤ i
    · rw [if_pos g, List.append_nil]
      refine ⟨M, ?_, Fq.rf, hL⟩
      rw [x_sentence_L188, hX.1, if_pos (by rw [zn_le (by omega) (by omega)]; omega)]
    · rw [if_neg g]
      have hin : i < n := by omega
      obtain ⟨w, w1, w2, w3, w4, w5⟩ := wdS_s hin hv
      rw [w1]
      show ∃ M', _ ∧ _ ∧ LX (l ++ ((zn w).toInt64 :: lsS 1000000000 C b n (zn s) (A 12) f (i + tlS C b n i w))) M'
      obtain ⟨Kd, hKd⟩ : ∃ Kd : Int32 → PM → Option (Int32 × PM), Kd = (fun (v15 : Int32) (M24 : PM) => bd (x_tells (Int32.toInt64 v15) M24) fun _ M25 => bd (x_tellsFrom v15 (zn i) M25) fun v16 M26 => lt (zn i + v16) fun v17 => x_sentence_L188 (zn s) Kc F v17 M26) := ⟨_, rfl⟩
      obtain ⟨M2, e2, f2⟩ := xs_find hd hin Kd C.nw 0 FU M (by omega) (FU_lt (by have := hx.ok.nw10; omega)) hx ha hX hr w w1
      obtain ⟨M3, e3, f3, l3⟩ := xs_tells (hL.fa f2) (by omega) (zn w).toInt64
      have f23 : Fq crX M M3 := (f2.mo (d := crX) (fun o j q => Or.inl q)).tr (f3.mo (d := crX) (fun o j q => Or.inr q))
      have x3 : CX C M3 := hx.fr f23 shR_crX (fun o j q => by unfold crX ca rwx; omega)
      have a3 : RvX 21 A M3 := ha.fr f23 (fun o j q => by unfold rdc at q; unfold crX ca rwx; omega)
      have X3 : dgX b n M3 := ⟨(f23.i _ _ (by unfold crX ca rwx; omega)).trans hX.1, fun j hj => (f23.i _ _ (by unfold crX ca rwx; omega)).trans (hX.2 j hj)⟩
      have r3 : rsX 1000000000 60 C b n (zn s) (A 12) 0 M3 := fun j h1 h2 => by rw [f23.i _ _ (by unfold crX ca rwx; omega)]; exact hr j h1 h2
      obtain ⟨M4, e4, f4, l4⟩ := ih (i + tlS C b n i w) (l ++ [(zn w).toInt64]) F M3 (by omega) (by omega) w4 (by rw [List.length_append]; show l.length + 1 + f ≤ 15; omega) w5 x3 a3 X3 r3 l3
      refine ⟨M4, ?_, f23.tr f4, by rw [List.append_assoc] at l4; exact l4⟩
      rw [x_sentence_L188, hX.1, if_neg (by rw [zn_le (by omega) (by omega)]; omega), ← hKd, show (0 : Int32) = zn 0 from rfl, e2, hKd]
      simp only [lt_u]
      rw [bde e3, bde (xs_tellsFrom x3 hd X3 w2 hin), zn_add, e4]
end
