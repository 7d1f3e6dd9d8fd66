set_option maxRecDepth 100000
/-! SENTENCES: what each place costs -/
def tlS (C : SV) (b : Nat → Nat) (n i w : Nat) : Nat := if C.mn w = b i - 48 then (if C.sc w = -1 then 1 else if n ≤ i + 1 then 0 else if C.sc w = zn (b (i + 1) - 48) then 2 else 0) else 0
def tN (C : SV) (st hr : Int32) (w : Nat) : Nat := ix (tol C w st hr)
def cfS (I : Nat) (C : SV) (b : Nat → Nat) (n : Nat) (st hr : Int32) (i : Nat) (p : Nat × Nat) (w : Nat) : Nat := if tlS C b n i w = 0 then I else min I (tN C st hr w + (if tlS C b n i w = 1 then p.1 else p.2))
def mnS (I : Nat) (C : SV) (b : Nat → Nat) (n : Nat) (st hr : Int32) (i : Nat) (p : Nat × Nat) (k : Nat) : Nat := itr (fun w r => min r (cfS I C b n st hr i p w)) k I
/-- what the last d places cost, and the last d - 1 -/
def VP (I : Nat) (C : SV) (b : Nat → Nat) (n : Nat) (st hr : Int32) : Nat → Nat × Nat
  | 0 => (0, 0)
  | d + 1 => (mnS I C b n st hr (n - (d + 1)) (VP I C b n st hr d) C.nw, (VP I C b n st hr d).1)
theorem tlS_2 {C : SV} {b : Nat → Nat} {n i w : Nat} : tlS C b n i w ≤ 2 ∧ (tlS C b n i w = 2 → i + 1 < n) := by
  unfold tlS
  repeat' split
  all_goals first | (refine ⟨by omega, fun h => ?_⟩; omega)
def relS (I J K : Nat) (a c : Nat) : Prop := (a = c ∧ a ≤ K) ∨ (a = I ∧ c = J)
theorem relS_min {I J K a c a' c' : Nat} (hI : K < I) (hJ : K < J) (h : relS I J K a c) (h' : relS I J K a' c') : relS I J K (min a a') (min c c') := by
  unfold relS at *
  omega
section
variable {C : SV} {b : Nat → Nat} {n : Nat} {st hr : Int32}
theorem tN_e (hC : OKC C) {w : Nat} (hw : w < C.nw) (st hr : Int32) : tol C w st hr = zn (tN C st hr w) ∧ tN C st hr w ≤ 594 := by
  obtain ⟨m, hm, e⟩ := tol_b hC hw st hr
  unfold tN
  rw [e, ix_zn (by omega)]
  exact ⟨rfl, hm⟩
theorem cfS_rel (hC : OKC C) {I J K i w : Nat} {p q : Nat × Nat} (hI : K + 594 < I) (hJ : K + 594 < J) (h1 : relS I J K p.1 q.1) (h2 : relS I J K p.2 q.2) (hw : w < C.nw) : relS I J (K + 594) (cfS I C b n st hr i p w) (cfS J C b n st hr i q w) := by
  have ht := (tN_e hC hw st hr).2
  unfold cfS
  by_cases g : tlS C b n i w = 0
  · rw [if_pos g, if_pos g]; exact Or.inr ⟨rfl, rfl⟩
  · rw [if_neg g, if_neg g]
    by_cases g1 : tlS C b n i w = 1
    · rw [if_pos g1, if_pos g1]
      unfold relS at *
      omega
    · rw [if_neg g1, if_neg g1]
      unfold relS at *
      omega
theorem mnS_rel (hC : OKC C) {I J K i : Nat} {p q : Nat × Nat} (hI : K + 594 < I) (hJ : K + 594 < J) (h1 : relS I J K p.1 q.1) (h2 : relS I J K p.2 q.2) : ∀ k, k ≤ C.nw → relS I J (K + 594) (mnS I C b n st hr i p k) (mnS J C b n st hr i q k) := by
  intro k
  induction k with
  | zero => intro _; exact Or.inr ⟨rfl, rfl⟩
  | succ k ih =>
    intro hk
    exact relS_min hI hJ (ih (by omega)) (cfS_rel hC hI hJ h1 h2 (by omega))
theorem VP_rel (hC : OKC C) {I J : Nat} (hI : 594 * 14 < I) (hJ : 594 * 14 < J) : ∀ d, d ≤ 12 → relS I J (594 * d) (VP I C b n st hr d).1 (VP J C b n st hr d).1 ∧ relS I J (594 * d) (VP I C b n st hr d).2 (VP J C b n st hr d).2 := by
  intro d
  induction d with
  | zero => intro _; exact ⟨Or.inl ⟨rfl, by show 0 ≤ _; omega⟩, Or.inl ⟨rfl, by show 0 ≤ _; omega⟩⟩
  | succ d ih =>
    intro hd
    obtain ⟨h1, h2⟩ := ih (by omega)
    have h3 := mnS_rel (b := b) (n := n) (st := st) (hr := hr) (i := n - (d + 1)) hC (I := I) (J := J) (K := 594 * d) (by omega) (by omega) h1 h2 C.nw (Nat.le_refl _)
    refine ⟨?_, ?_⟩
    · show relS I J (594 * (d + 1)) (mnS I C b n st hr (n - (d + 1)) (VP I C b n st hr d) C.nw) (mnS J C b n st hr (n - (d + 1)) (VP J C b n st hr d) C.nw)
      rw [show 594 * (d + 1) = 594 * d + 594 by omega]
      exact h3
    · show relS I J (594 * (d + 1)) (VP I C b n st hr d).1 (VP J C b n st hr d).1
      unfold relS at *
      omega
theorem mnS_le {I i : Nat} {p : Nat × Nat} (k : Nat) : mnS I C b n st hr i p k ≤ I := by
  induction k with
  | zero => exact Nat.le_refl _
  | succ k ih => exact Nat.le_trans (Nat.min_le_left _ _) ih
theorem mnS_at {I i : Nat} {p : Nat × Nat} (k : Nat) : mnS I C b n st hr i p k < I → ∃ w, w < k ∧ cfS I C b n st hr i p w = mnS I C b n st hr i p k := by
  induction k with
  | zero => intro h; exact absurd h (by show ¬ I < I; omega)
  | succ k ih =>
    intro h
    have e : mnS I C b n st hr i p (k + 1) = min (mnS I C b n st hr i p k) (cfS I C b n st hr i p k) := rfl
    rw [e] at h ⊢
    by_cases g : cfS I C b n st hr i p k ≤ mnS I C b n st hr i p k
    · exact ⟨k, by omega, by omega⟩
    · obtain ⟨w, h1, h2⟩ := ih (by omega)
      exact ⟨w, by omega, by omega⟩
theorem VP_le {I : Nat} : ∀ d, (VP I C b n st hr d).1 ≤ I ∧ (VP I C b n st hr d).2 ≤ I := by
  intro d
  induction d with
  | zero => exact ⟨Nat.zero_le _, Nat.zero_le _⟩
  | succ d ih => exact ⟨mnS_le _, ih.1⟩
end
/-- the digits of a sentence, as the system holds them -/
def dgX (b : Nat → Nat) (n : Nat) (M : PM) : Prop := M.i 20 51 = zn n ∧ ∀ i, i < n → M.i 59 i = zn (b i - 48)
def dgs (b : Nat → Nat) (n : Nat) : Prop := n ≤ 12 ∧ ∀ i, i < n → 48 ≤ b i ∧ b i ≤ 57
section
variable {C : SV} {A : Nat → Int32} {M M1 : PM} {b : Nat → Nat} {n i w : Nat}
theorem OKC.scx (h : OKC C) (hw : w < C.nw) : C.sc w = -1 ∨ ∃ d, d ≤ 9 ∧ C.sc w = zn d := (h.2.2.2.2.1 w hw).2.2.1
theorem xs_tellsFrom (h : CX C M) (hd : dgs b n) (hX : dgX b n M) (hw : w < C.nw) (hi : i < n) : x_tellsFrom (zn w) (zn i) M = some (zn (tlS C b n i w), M) := by
  have b1 := h.ok.nw10
  obtain ⟨g1, g2, g3, -⟩ := h.2.2.1 w hw
  have m9 := h.ok.mn9 w hw
  obtain ⟨n12, hdg⟩ := hd
  have d0 := hdg i hi
  obtain ⟨x51, x59⟩ := hX
  unfold x_tellsFrom tlS
  rw [ck_zn (by omega) (by omega), ck_zn (by omega) (by omega), ix_zn (by omega), ix_zn (by omega), g2, x59 i hi, g3, x51, zn_addl]
  by_cases e1 : C.mn w = b i - 48
  · rw [if_pos (by rw [e1]), if_pos e1, ck_zn (by omega) (by omega)]
    rcases h.ok.scx hw with e2 | ⟨d, hd9, e2⟩
    · rw [e2, if_neg (by decide), if_pos rfl]; rfl
    · have nm : ¬ zn d = -1 := by rw [zn_eq_m (by omega)]; exact id
      rw [e2, if_pos (zn_nonneg (by omega)), if_neg nm]
      by_cases e3 : n ≤ i + 1
      · rw [if_pos (show zn n ≤ zn (i + 1) by rw [zn_le (by omega) (by omega)]; exact e3), if_pos e3]; rfl
      · rw [if_neg (show ¬ zn n ≤ zn (i + 1) by rw [zn_le (by omega) (by omega)]; exact e3), if_neg e3, ck_zn (by omega) (by omega), ck_zn (by omega) (by omega), ix_zn (by omega), x59 (i + 1) (by omega)]
        by_cases e4 : zn d = zn (b (i + 1) - 48)
        · rw [if_pos e4, if_pos e4]; rfl
        · rw [if_neg e4, if_neg e4]; rfl
  · rw [if_neg (by rw [zn_eq (by omega) (by omega)]; exact e1), if_neg e1]; rfl
theorem ms_tellsFrom (h : CY 83 C M) (hd : dgs b n) (hY : ∀ k, k < 80 → M.i 78 k = b8 (b k)) (hw : w < C.nw) (hi : i < n) : m_tells (zn w) (zn i) (zn n) M = some (zn (tlS C b n i w), M) := by
  have b1 := h.ok.nw10
  obtain ⟨g1, g2, g3, -⟩ := h.2.2.1 w hw
  have m9 := h.ok.mn9 w hw
  obtain ⟨n12, hdg⟩ := hd
  have d0 := hdg i hi
  have e2w : (2 : Int32) * zn w = zn (2 * w) := zn_mull w 2
  have e78 : ∀ k, k < n → M.i 78 k - 48 = zn (b k - 48) := fun k hk => by
    have := hdg k hk
    rw [hY k (by omega), b8_low _ (by omega)]
    exact zn_subl (n := 48) this.1
  unfold m_tells tlS
  simp only [e2w, zn_addl]
  rw [ck_zn (by omega) (by omega), ck_zn (by omega) (by omega), ix_zn (by omega), ix_zn (by omega), g2, e78 i hi]
  by_cases e1 : C.mn w = b i - 48
  · rw [if_pos (by rw [e1]), if_pos e1, ck_zn (by omega) (by omega), ix_zn (by omega), g3]
    rcases h.ok.scx hw with e2 | ⟨d, hd9, e2⟩
    · rw [e2, if_pos rfl, if_pos rfl]; rfl
    · have nm : ¬ zn d = -1 := by rw [zn_eq_m (by omega)]; exact id
      rw [e2, if_neg nm, if_neg nm]
      by_cases e3 : n ≤ i + 1
      · rw [if_pos (show zn n ≤ zn (i + 1) by rw [zn_le (by omega) (by omega)]; exact e3), if_pos e3]; rfl
      · rw [if_neg (show ¬ zn n ≤ zn (i + 1) by rw [zn_le (by omega) (by omega)]; exact e3), if_neg e3, ck_zn (by omega) (by omega), ck_zn (by omega) (by omega), ix_zn (by omega), e78 (i + 1) (by omega)]
        by_cases e4 : zn d = zn (b (i + 1) - 48)
        · rw [if_pos e4, if_pos e4]; rfl
        · rw [if_neg e4, if_neg e4]; rfl
  · rw [if_neg (by rw [zn_eq (by omega) (by omega)]; exact e1), if_neg e1]; rfl
end
