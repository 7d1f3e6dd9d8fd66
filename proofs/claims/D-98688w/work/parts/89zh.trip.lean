set_option maxRecDepth 100000
/-! TRIPS: plans by hours, stations and errands that are done -/
/-- two stations no further apart than an hour's walk -/
abbrev adj (s s' : Nat) : Prop := s' ≤ s + 1 ∧ s ≤ s' + 1
section
variable (ns nw : Nat) (B : Nat → Nat → Nat) (v : Nat → Nat → Nat → Nat) (s0 T0 : Nat)
/-- in hour h at station s the set T can be done for c: what holds at the start and goes on by sayings and by walks holds there -/
def PT (h s T c : Nat) : Prop := ∀ P : Nat → Nat → Nat → Nat → Prop, P 0 s0 T0 0 → (∀ h s T c w, P h s T c → w < nw → T ||| B s w ≠ T → P h s (T ||| B s w) (c + v h s w)) → (∀ h s T c s', P h s T c → s' < ns → adj s s' → P (h + 1) s' T c) → P h s T c
/-- so one comes in an hour to a station -/
def AR : Nat → Nat → Nat → Nat → Prop
  | 0, s, T, c => s = s0 ∧ T = T0 ∧ c = 0
  | h + 1, s', T, c => s' < ns ∧ ∃ s, adj s s' ∧ PT ns nw B v s0 T0 h s T c
variable {ns nw B v s0 T0}
theorem PT.st : PT ns nw B v s0 T0 0 s0 T0 0 := fun _ a _ _ => a
theorem PT.sy {h s T c : Nat} (w : Nat) (p : PT ns nw B v s0 T0 h s T c) (hw : w < nw) (hu : T ||| B s w ≠ T) : PT ns nw B v s0 T0 h s (T ||| B s w) (c + v h s w) := fun P a b d => b _ _ _ _ w (p P a b d) hw hu
theorem PT.mv {h s T c s' : Nat} (p : PT ns nw B v s0 T0 h s T c) (h1 : s' < ns) (h2 : adj s s') : PT ns nw B v s0 T0 (h + 1) s' T c := fun P a b d => d _ _ _ _ _ (p P a b d) h1 h2
theorem PT.ind {Q : Nat → Nat → Nat → Nat → Prop} (a : Q 0 s0 T0 0) (b : ∀ h s T c w, PT ns nw B v s0 T0 h s T c → Q h s T c → w < nw → T ||| B s w ≠ T → Q h s (T ||| B s w) (c + v h s w)) (d : ∀ h s T c s', PT ns nw B v s0 T0 h s T c → Q h s T c → s' < ns → adj s s' → Q (h + 1) s' T c) {h s T c : Nat} (p : PT ns nw B v s0 T0 h s T c) : Q h s T c :=
  (p (fun h s T c => PT ns nw B v s0 T0 h s T c ∧ Q h s T c) ⟨PT.st, a⟩ (fun h s T c w q hw hu => ⟨q.1.sy w hw hu, b h s T c w q.1 q.2 hw hu⟩) (fun h s T c s' q h1 h2 => ⟨q.1.mv h1 h2, d h s T c s' q.1 q.2 h1 h2⟩)).2
theorem or_gt {a b : Nat} (h : a ||| b ≠ a) : a < a ||| b := by
  have : a ≤ a ||| b := Nat.left_le_or
  omega
theorem PT.ok {N : Nat} (hs : s0 < ns) (hT : T0 < 2 ^ N) (hB : ∀ s w, s < ns → w < nw → B s w < 2 ^ N) (hv : ∀ h s w, w < nw → v h s w ≤ 594) {h s T c : Nat} (p : PT ns nw B v s0 T0 h s T c) : s < ns ∧ T < 2 ^ N ∧ c ≤ 594 * T := by
  refine PT.ind (Q := fun h s T c => s < ns ∧ T < 2 ^ N ∧ c ≤ 594 * T) ⟨hs, hT, Nat.zero_le _⟩ (fun hh ss TT cc w p ih hw hu => ?_) (fun hh ss TT cc s' p ih h1 h2 => ⟨h1, ih.2.1, ih.2.2⟩) p
  obtain ⟨h1, h2, h3⟩ := ih
  have h4 := or_gt hu
  refine ⟨h1, Nat.or_lt_two_pow h2 (hB _ _ h1 hw), ?_⟩
  have h7 := hv hh ss w hw
  omega
theorem PT.stay (hs : s0 < ns) {N : Nat} (hT : T0 < 2 ^ N) (hB : ∀ s w, s < ns → w < nw → B s w < 2 ^ N) (hv : ∀ h s w, w < nw → v h s w ≤ 594) {h s T c : Nat} (p : PT ns nw B v s0 T0 h s T c) : PT ns nw B v s0 T0 (h + 1) s T c := p.mv (p.ok hs hT hB hv).1 ⟨by omega, by omega⟩
theorem AR.pt {h s T c : Nat} (p : AR ns nw B v s0 T0 h s T c) : PT ns nw B v s0 T0 h s T c := by
  cases h with
  | zero => obtain ⟨rfl, rfl, rfl⟩ := p; exact PT.st
  | succ h => obtain ⟨h1, s1, h2, h3⟩ := p; exact h3.mv h1 h2
/-- a row of costs, I what can't be: what the D's are at the least -/
def LR (I N : Nat) (D : Nat → Nat → Prop) (g : Nat → Nat) : Prop := ∀ T, T < N → g T ≤ I ∧ (g T < I → D T (g T)) ∧ ∀ c, D T c → g T ≤ c
/-- behind all sayings -/
theorem LR.close {I N h s : Nat} {f g : Nat → Nat} (hN : T0 < 2 ^ N) (hB : ∀ s w, s < ns → w < nw → B s w < 2 ^ N) (hv : ∀ h s w, w < nw → v h s w ≤ 594) (hs0 : s0 < ns) (hs : s < ns)
    (hf : LR I (2 ^ N) (AR ns nw B v s0 T0 h s) f) (h1 : ∀ T, T < 2 ^ N → g T ≤ f T) (h2 : ∀ T, T < 2 ^ N → g T < I → PT ns nw B v s0 T0 h s T (g T)) (h3 : ∀ T, T < 2 ^ N → ∀ w, w < nw → g (T ||| B s w) ≤ g T + v h s w) :
    LR I (2 ^ N) (PT ns nw B v s0 T0 h s) g := by
  have key : ∀ {h' s' T c}, PT ns nw B v s0 T0 h' s' T c → h' = h → s' = s → g T ≤ c := by
    intro h' s' T c p
    refine PT.ind (Q := fun h' s' T c => h' = h → s' = s → g T ≤ c) ?_ ?_ ?_ p
    · intro e1 e2
      subst e1
      subst e2
      exact Nat.le_trans (h1 _ hN) ((hf _ hN).2.2 0 ⟨rfl, rfl, rfl⟩)
    · intro h' s' T c w p ih hw hu e1 e2
      have h4 := (p.ok hs0 hN hB hv).2.1
      have h5 := ih e1 e2
      subst e1
      subst e2
      have h6 := h3 _ h4 w hw
      omega
    · intro h' s1 T c s' p ih hq ha e1 e2
      subst e1
      subst e2
      have h4 := (p.ok hs0 hN hB hv).2.1
      exact Nat.le_trans (h1 _ h4) ((hf _ h4).2.2 _ ⟨hq, _, ha, p⟩)
  intro T hT
  exact ⟨Nat.le_trans (h1 T hT) (hf T hT).1, h2 T hT, fun c p => key p rfl rfl⟩
end
/-- the least of a set, or I -/
def isY (I : Nat) (D : Nat → Prop) (y : Nat) : Prop := y ≤ I ∧ (y < I → D y) ∧ ∀ c, D c → y ≤ c
theorem exY (I : Nat) (D : Nat → Prop) : ∃ y, isY I D y := by
  have key : ∀ n, (∃ y, y ≤ n ∧ D y) → ∃ y, D y ∧ ∀ c, D c → y ≤ c := by
    intro n
    induction n with
    | zero =>
      rintro ⟨y, h1, h2⟩
      have : y = 0 := by omega
      subst this
      exact ⟨0, h2, fun c _ => Nat.zero_le c⟩
    | succ n ih =>
      rintro ⟨y, h1, h2⟩
      by_cases g : ∃ z, z ≤ n ∧ D z
      · exact ih g
      · refine ⟨y, h2, fun c hc => ?_⟩
        have : ¬ c ≤ n := fun q => g ⟨c, q, hc⟩
        omega
  by_cases g : ∃ y, y < I ∧ D y
  · obtain ⟨y0, h1, h2⟩ := g
    obtain ⟨y, h3, h4⟩ := key I ⟨y0, by omega, h2⟩
    have := h4 y0 h2
    exact ⟨y, by omega, fun _ => h3, h4⟩
  · refine ⟨I, Nat.le_refl _, fun q => absurd q (Nat.lt_irrefl I), fun c hc => ?_⟩
    have : ¬ c < I := fun q => g ⟨c, q, hc⟩
    omega
noncomputable def vY (I : Nat) (D : Nat → Prop) : Nat := Classical.choose (exY I D)
theorem vY_is (I : Nat) (D : Nat → Prop) : isY I D (vY I D) := Classical.choose_spec (exY I D)
theorem isY.rel {I J K y z : Nat} {D E : Nat → Prop} (hD : ∀ c, D c ↔ E c) (hK : ∀ c, D c → c ≤ K) (hI : K < I) (hJ : K < J) (h1 : isY I D y) (h2 : isY J E z) : (y = z ∧ y ≤ K) ∨ (y = I ∧ z = J) := by
  obtain ⟨a1, a2, a3⟩ := h1
  obtain ⟨b1, b2, b3⟩ := h2
  by_cases g : y < I
  · have h3 := a2 g
    have h4 := hK _ h3
    have h5 := b3 _ ((hD _).mp h3)
    have h6 := a3 _ ((hD _).mpr (b2 (by omega)))
    exact Or.inl ⟨by omega, by omega⟩
  · by_cases g2 : z < J
    · have h3 := (hD _).mpr (b2 g2)
      have h4 := hK _ h3
      have h5 := a3 _ h3
      omega
    · exact Or.inr ⟨by omega, by omega⟩
theorem isY.uniq {I y z : Nat} {D : Nat → Prop} (h1 : isY I D y) (h2 : isY I D z) : y = z := by
  obtain ⟨a1, a2, a3⟩ := h1
  obtain ⟨b1, b2, b3⟩ := h2
  by_cases g : y < I
  · have h3 := b3 _ (a2 g)
    have h4 := a3 _ (b2 (by omega))
    omega
  · by_cases g2 : z < I
    · have h4 := a3 _ (b2 g2)
      omega
    · omega
theorem isY.min {I y z : Nat} {D E : Nat → Prop} (h1 : isY I D y) (h2 : isY I E z) : isY I (fun c => D c ∨ E c) (min y z) := by
  obtain ⟨a1, a2, a3⟩ := h1
  obtain ⟨b1, b2, b3⟩ := h2
  refine ⟨by omega, fun g => ?_, fun c hc => ?_⟩
  · by_cases q : y ≤ z
    · rw [Nat.min_eq_left q] at g ⊢; exact Or.inl (a2 g)
    · rw [Nat.min_eq_right (by omega)] at g ⊢; exact Or.inr (b2 g)
  · rcases hc with hc | hc
    · have := a3 c hc; omega
    · have := b3 c hc; omega
theorem isY.iff {I y : Nat} {D E : Nat → Prop} (h1 : isY I D y) (h : ∀ c, D c ↔ E c) : isY I E y := ⟨h1.1, fun g => (h _).mp (h1.2.1 g), fun c hc => h1.2.2 c ((h c).mpr hc)⟩
theorem isY.none (I : Nat) {D : Nat → Prop} (h : ∀ c, ¬ D c) : isY I D I := ⟨Nat.le_refl _, fun g => absurd g (Nat.lt_irrefl I), fun c hc => absurd hc (h c)⟩
/-! two ways to hold what is done -/
section
variable {ns nw : Nat} {B : Nat → Nat → Nat} {v : Nat → Nat → Nat → Nat} {s0 T0 U0 O : Nat}
theorem tb_ne {a b : Nat} (h : a ||| b ≠ a) : ∃ i, b.testBit i = true ∧ a.testBit i = false := by
  refine Classical.byContradiction fun q => h (Nat.eq_of_testBit_eq fun i => ?_)
  rw [Nat.testBit_or]
  have : ¬ (b.testBit i = true ∧ a.testBit i = false) := fun w => q ⟨i, w⟩
  cases h1 : a.testBit i <;> cases h2 : b.testBit i <;> simp_all
theorem ne_tb {a b i : Nat} (h1 : b.testBit i = true) (h2 : a.testBit i = false) : a ||| b ≠ a := by
  intro e
  have := congrArg (fun x => x.testBit i) e
  simp [Nat.testBit_or, h1, h2] at this
theorem PT.to (hU : ∀ i, U0.testBit i = (decide (i < 8) && !O.testBit i)) (hd : ∀ i, T0.testBit i = true → O.testBit i = false ∧ i < 8) (hB : ∀ s w i, w < nw → (B s w).testBit i = true → i < 8 ∧ (T0.testBit i = true ∨ O.testBit i = true)) {h s T c : Nat} (p : PT ns nw B v s0 T0 h s T c) : (∀ i, T0.testBit i = true → T.testBit i = true) ∧ PT ns nw B v s0 U0 h s (T ||| U0) c := by
  refine PT.ind (Q := fun h s T c => (∀ i, T0.testBit i = true → T.testBit i = true) ∧ PT ns nw B v s0 U0 h s (T ||| U0) c) ?_ ?_ ?_ p
  · refine ⟨fun i h => h, ?_⟩
    have e : T0 ||| U0 = U0 := Nat.eq_of_testBit_eq fun i => by
      rw [Nat.testBit_or, hU]
      cases h1 : T0.testBit i
      · rfl
      · obtain ⟨h2, h3⟩ := hd i h1
        simp [h2, h3]
    rw [e]
    exact PT.st
  · intro h s T c w p ih hw hu
    obtain ⟨i1, i2⟩ := ih
    refine ⟨fun i q => by rw [Nat.testBit_or, i1 i q]; rfl, ?_⟩
    obtain ⟨i, g1, g2⟩ := tb_ne hu
    have g3 : U0.testBit i = false := by
      rw [hU]
      obtain ⟨g4, g5⟩ := hB s w i hw g1
      rcases g5 with g5 | g5
      · rw [i1 i g5] at g2; cases g2
      · simp [g5]
    have e : T ||| B s w ||| U0 = (T ||| U0) ||| B s w := by rw [Nat.or_assoc, Nat.or_comm (B s w), Nat.or_assoc]
    rw [e]
    exact i2.sy w hw (ne_tb g1 (by rw [Nat.testBit_or, g2, g3]; rfl))
  · intro h s T c s' p ih h1 h2
    exact ⟨ih.1, ih.2.mv h1 h2⟩
theorem PT.fro (hU : ∀ i, U0.testBit i = (decide (i < 8) && !O.testBit i)) (hd : ∀ i, T0.testBit i = true → O.testBit i = false ∧ i < 8) (hB : ∀ s w i, w < nw → (B s w).testBit i = true → i < 8 ∧ (T0.testBit i = true ∨ O.testBit i = true)) {h s U c : Nat} (p : PT ns nw B v s0 U0 h s U c) : ∃ T, U = T ||| U0 ∧ (∀ i, T0.testBit i = true → T.testBit i = true) ∧ (∀ i, T.testBit i = true → T0.testBit i = true ∨ O.testBit i = true) ∧ PT ns nw B v s0 T0 h s T c := by
  refine PT.ind (Q := fun h s U c => ∃ T, U = T ||| U0 ∧ (∀ i, T0.testBit i = true → T.testBit i = true) ∧ (∀ i, T.testBit i = true → T0.testBit i = true ∨ O.testBit i = true) ∧ PT ns nw B v s0 T0 h s T c) ?_ ?_ ?_ p
  · refine ⟨T0, Nat.eq_of_testBit_eq fun i => ?_, fun i h => h, fun i h => Or.inl h, PT.st⟩
    rw [Nat.testBit_or, hU]
    cases h1 : T0.testBit i
    · rfl
    · obtain ⟨h2, h3⟩ := hd i h1
      simp [h2, h3]
  · intro h s U c w p ih hw hu
    obtain ⟨T, e, i1, i2, i3⟩ := ih
    obtain ⟨i, g1, g2⟩ := tb_ne hu
    rw [e, Nat.testBit_or, Bool.or_eq_false_iff] at g2
    refine ⟨T ||| B s w, ?_, fun j q => by rw [Nat.testBit_or, i1 j q]; rfl, fun j q => ?_, i3.sy w hw (ne_tb g1 g2.1)⟩
    · rw [e, Nat.or_assoc, Nat.or_comm U0, Nat.or_assoc]
    · rw [Nat.testBit_or, Bool.or_eq_true] at q
      rcases q with q | q
      · exact i2 j q
      · exact (hB s w j hw q).2
  · intro h s U c s' p ih h1 h2
    obtain ⟨T, e, i1, i2, i3⟩ := ih
    exact ⟨T, e, i1, i2, i3.mv h1 h2⟩
theorem PT.full (hU : ∀ i, U0.testBit i = (decide (i < 8) && !O.testBit i)) (hO : ∀ i, O.testBit i = true → i < 8) (hd : ∀ i, T0.testBit i = true → O.testBit i = false ∧ i < 8) (hB : ∀ s w i, w < nw → (B s w).testBit i = true → i < 8 ∧ (T0.testBit i = true ∨ O.testBit i = true)) (h s c : Nat) : PT ns nw B v s0 T0 h s (T0 ||| O) c ↔ PT ns nw B v s0 U0 h s 255 c := by
  have e255 : ∀ i, Nat.testBit 255 i = decide (i < 8) := fun i => Nat.testBit_two_pow_sub_one 8 i
  constructor
  · intro p
    have e : T0 ||| O ||| U0 = 255 := Nat.eq_of_testBit_eq fun i => by
      rw [Nat.testBit_or, Nat.testBit_or, hU, e255]
      cases h1 : T0.testBit i
      · cases h2 : O.testBit i
        · simp
        · simp [hO i h2]
      · obtain ⟨h2, h3⟩ := hd i h1
        simp [h3]
    rw [← e]
    exact (p.to hU hd hB).2
  · intro p
    obtain ⟨T, e, i1, i2, i3⟩ := p.fro hU hd hB
    have e : T0 ||| O = T := Nat.eq_of_testBit_eq fun i => by
      have q := congrArg (fun x => x.testBit i) e
      simp only [Nat.testBit_or, hU, e255] at q
      rw [Nat.testBit_or]
      cases h1 : T0.testBit i
      · cases h2 : O.testBit i
        · cases h3 : T.testBit i
          · rfl
          · rcases i2 i h3 with w | w
            · rw [h1] at w; cases w
            · rw [h2] at w; cases w
        · rw [h2] at q
          simp [hO i h2] at q
          simp [q]
      · rw [i1 i h1]; rfl
    rw [e]
    exact i3
end
/-! one row of costs, as words are said -/
section
variable {ns nw : Nat} {B : Nat → Nat → Nat} {v : Nat → Nat → Nat → Nat} {s0 T0 I N h s T k : Nat} {f g g0 : Nat → Nat}
def ups (g : Nat → Nat) (a x : Nat) : Nat → Nat := fun i => if i = a then x else g i
theorem ups_eq (g : Nat → Nat) (a x : Nat) : ups g a x a = x := if_pos rfl
theorem ups_ne {g : Nat → Nat} {a x i : Nat} (h : i ≠ a) : ups g a x i = g i := if_neg h
theorem or_idem' (a b : Nat) : a ||| b ||| b = a ||| b := by rw [Nat.or_assoc, Nat.or_self]
/-- the system: at the set T, behind k words -/
def XSI (ns nw : Nat) (B : Nat → Nat → Nat) (v : Nat → Nat → Nat → Nat) (s0 T0 I N h s : Nat) (f : Nat → Nat) (T k : Nat) (g : Nat → Nat) : Prop :=
  (∀ S, S < N → g S ≤ f S) ∧ (∀ S, S < N → g S < I → PT ns nw B v s0 T0 h s S (g S)) ∧ (∀ S, S < T → ∀ w, w < nw → g (S ||| B s w) ≤ g S + v h s w) ∧ ∀ w, w < k → g (T ||| B s w) ≤ g T + v h s w
theorem XSI.i0 (hf : ∀ S, S < N → f S < I → PT ns nw B v s0 T0 h s S (f S)) : XSI ns nw B v s0 T0 I N h s f 0 0 f :=
  ⟨fun _ _ => Nat.le_refl _, hf, fun S q => absurd q (Nat.not_lt_zero S), fun w q => absurd q (Nat.not_lt_zero w)⟩
theorem XSI.same (h0 : XSI ns nw B v s0 T0 I N h s f T k g) (e : T ||| B s k = T) : XSI ns nw B v s0 T0 I N h s f T (k + 1) g := by
  obtain ⟨a, b, c, d⟩ := h0
  refine ⟨a, b, c, fun w hw => ?_⟩
  by_cases q : w = k
  · rw [q, e]; omega
  · exact d w (by omega)
theorem XSI.say (h0 : XSI ns nw B v s0 T0 I N h s f T k g) (hk : k < nw) (hT : T < N) (hg : g T < I) (e : T ||| B s k ≠ T) : XSI ns nw B v s0 T0 I N h s f T (k + 1) (ups g (T ||| B s k) (min (g (T ||| B s k)) (g T + v h s k))) := by
  obtain ⟨a, b, c, d⟩ := h0
  have h1 := or_gt e
  have hlow : ∀ S, ups g (T ||| B s k) (min (g (T ||| B s k)) (g T + v h s k)) S ≤ g S := fun S => by
    unfold ups
    split
    · rename_i q; rw [q]; exact Nat.min_le_left _ _
    · exact Nat.le_refl _
  have hsame : ∀ S, S ≤ T → ups g (T ||| B s k) (min (g (T ||| B s k)) (g T + v h s k)) S = g S := fun S q => ups_ne (by omega)
  refine ⟨fun S hS => Nat.le_trans (hlow S) (a S hS), fun S hS => ?_, fun S hS w hw => ?_, fun w hw => ?_⟩
  · by_cases q : S = T ||| B s k
    · subst q
      rw [ups_eq]
      intro hl
      by_cases q2 : g (T ||| B s k) ≤ g T + v h s k
      · rw [Nat.min_eq_left q2] at hl ⊢
        exact b _ hS hl
      · rw [Nat.min_eq_right (by omega)]
        exact (b T hT hg).sy k hk e
    · rw [ups_ne q]; exact b S hS
  · rw [hsame S (by omega)]
    exact Nat.le_trans (hlow _) (c S hS w hw)
  · rw [hsame T (Nat.le_refl _)]
    by_cases q : w = k
    · subst q
      rw [ups_eq]
      exact Nat.min_le_right _ _
    · exact Nat.le_trans (hlow _) (d w (by omega))
theorem XSI.next (h0 : XSI ns nw B v s0 T0 I N h s f T nw g) : XSI ns nw B v s0 T0 I N h s f (T + 1) 0 g := by
  obtain ⟨a, b, c, d⟩ := h0
  refine ⟨a, b, fun S hS w hw => ?_, fun w q => absurd q (Nat.not_lt_zero w)⟩
  by_cases q : S = T
  · rw [q]; exact d w hw
  · exact c S (by omega) w hw
theorem XSI.none (h0 : XSI ns nw B v s0 T0 I N h s f T k g) (hg : I ≤ g T) (hf : ∀ w, w < nw → g (T ||| B s w) ≤ I) : XSI ns nw B v s0 T0 I N h s f (T + 1) 0 g := by
  obtain ⟨a, b, c, d⟩ := h0
  refine ⟨a, b, fun S hS w hw => ?_, fun w q => absurd q (Nat.not_lt_zero w)⟩
  by_cases q : S = T
  · rw [q]; have := hf w hw; omega
  · exact c S (by omega) w hw
/-- the reference: a word, behind T sets -/
def MSI (b u : Nat) (g0 : Nat → Nat) (T : Nat) (g : Nat → Nat) : Prop :=
  (∀ S, g S ≤ g0 S) ∧ (∀ S, S < T → g (S ||| b) ≤ g0 S + u) ∧ (∀ S, g S = g0 S ∨ ∃ S', S' < T ∧ S' ||| b = S ∧ g S = g0 S' + u) ∧ ∀ S, S ||| b ≠ S → g S = g0 S
theorem MSI.i0 (b u : Nat) (g0 : Nat → Nat) : MSI b u g0 0 g0 := ⟨fun _ => Nat.le_refl _, fun S q => absurd q (Nat.not_lt_zero S), fun _ => Or.inl rfl, fun _ _ => rfl⟩
theorem MSI.step {b u : Nat} (h0 : MSI b u g0 T g) : MSI b u g0 (T + 1) (ups g (T ||| b) (min (g (T ||| b)) (g T + u))) := by
  obtain ⟨a, p, c, d⟩ := h0
  have hlow : ∀ S, ups g (T ||| b) (min (g (T ||| b)) (g T + u)) S ≤ g S := fun S => by
    unfold ups
    split
    · rename_i q; rw [q]; exact Nat.min_le_left _ _
    · exact Nat.le_refl _
  refine ⟨fun S => Nat.le_trans (hlow S) (a S), fun S hS => ?_, fun S => ?_, fun S hS => ?_⟩
  · by_cases q : S = T
    · subst q
      rw [ups_eq]
      have := a S
      omega
    · exact Nat.le_trans (hlow _) (p S (by omega))
  · by_cases q : S = T ||| b
    · subst q
      rw [ups_eq]
      by_cases q2 : g (T ||| b) ≤ g T + u
      · rw [Nat.min_eq_left q2]
        rcases c (T ||| b) with w | ⟨S', w1, w2, w3⟩
        · exact Or.inl w
        · exact Or.inr ⟨S', by omega, w2, w3⟩
      · rw [Nat.min_eq_right (by omega)]
        by_cases q3 : T ||| b = T
        · rw [q3] at q2; omega
        · exact Or.inr ⟨T, by omega, rfl, by rw [d T q3]⟩
    · rw [ups_ne q]
      rcases c S with w | ⟨S', w1, w2, w3⟩
      · exact Or.inl w
      · exact Or.inr ⟨S', by omega, w2, w3⟩
  · rw [ups_ne (fun q => hS (by rw [q, or_idem']))]
    exact d S hS
def WSI (ns nw : Nat) (B : Nat → Nat → Nat) (v : Nat → Nat → Nat → Nat) (s0 T0 I N h s : Nat) (f : Nat → Nat) (k : Nat) (g : Nat → Nat) : Prop :=
  (∀ S, S < N → g S ≤ f S) ∧ (∀ S, S < N → g S < I → PT ns nw B v s0 T0 h s S (g S)) ∧ ∀ w, w < k → ∀ S, S < N → g (S ||| B s w) ≤ g S + v h s w
theorem WSI.i0 (hf : ∀ S, S < N → f S < I → PT ns nw B v s0 T0 h s S (f S)) : WSI ns nw B v s0 T0 I N h s f 0 f :=
  ⟨fun _ _ => Nat.le_refl _, hf, fun w q => absurd q (Nat.not_lt_zero w)⟩
theorem WSI.step (h0 : WSI ns nw B v s0 T0 I N h s f k g0) (hk : k < nw) (h1 : MSI (B s k) (v h s k) g0 N g) (hN : ∀ S, S < N → ∀ w, w < nw → S ||| B s w < N) : WSI ns nw B v s0 T0 I N h s f (k + 1) g := by
  obtain ⟨a, b, c⟩ := h0
  obtain ⟨p, q, r, t⟩ := h1
  refine ⟨fun S hS => Nat.le_trans (p S) (a S hS), fun S hS hl => ?_, fun w hw S hS => ?_⟩
  · rcases r S with e | ⟨S', e1, e2, e3⟩
    · rw [e] at hl ⊢; exact b S hS hl
    · by_cases g2 : S' ||| B s k = S'
      · have e4 : S = S' := by rw [← e2, g2]
        subst e4
        have h5 := p S
        have h6 : v h s k = 0 := by omega
        have h7 : g S = g0 S := by omega
        rw [h7] at hl ⊢
        exact b S hS hl
      · rw [e3, ← e2]
        exact (b S' e1 (by omega)).sy k hk g2
  · by_cases e : w = k
    · subst e
      rcases r S with e | ⟨S', e1, e2, e3⟩
      · have := q S hS
        omega
      · have : S ||| B s w = S := by rw [← e2, or_idem']
        rw [this]; omega
    · have hw' : w < k := by omega
      rcases r S with e | ⟨S', e1, e2, e3⟩
      · have h2 := p (S ||| B s w)
        have h3 := c w hw' S hS
        omega
      · have h2 := q (S' ||| B s w) (hN S' e1 w (by omega))
        have h3 := c w hw' S' e1
        have h4 : S ||| B s w = S' ||| B s w ||| B s k := by rw [← e2, Nat.or_assoc, Nat.or_assoc, Nat.or_comm (B s k)]
        rw [h4]
        omega
end
/-! walking on -/
section
variable {ns nw : Nat} {B : Nat → Nat → Nat} {v : Nat → Nat → Nat → Nat} {s0 T0 I N h : Nat}
/-- what has come to a station from what was gone through: the stations ahead of s1; of s1 the ways ahead of t, to t the sets ahead of X -/
def CM (ns nw : Nat) (B : Nat → Nat → Nat) (v : Nat → Nat → Nat → Nat) (s0 T0 h s1 t X : Nat) (to T : Nat) (c : Nat) : Prop := ∃ s, adj s to ∧ (s < s1 ∨ (s = s1 ∧ (to < t ∨ (to = t ∧ T < X)))) ∧ PT ns nw B v s0 T0 h s T c
theorem CM.one {s1 t X : Nat} (ha : adj s1 t) (c : Nat) : CM ns nw B v s0 T0 h s1 t (X + 1) t X c ↔ (CM ns nw B v s0 T0 h s1 t X t X c ∨ PT ns nw B v s0 T0 h s1 X c) := by
  constructor
  · rintro ⟨s, h1, h2, h3⟩
    by_cases e : s = s1
    · subst e; exact Or.inr h3
    · exact Or.inl ⟨s, h1, by omega, h3⟩
  · rintro (⟨s, h1, h2, h3⟩ | h3)
    · exact ⟨s, h1, by omega, h3⟩
    · exact ⟨s1, ha, by omega, h3⟩
theorem CM.other {s1 t X to T : Nat} (hn : ¬ (to = t ∧ T = X)) (c : Nat) : CM ns nw B v s0 T0 h s1 t (X + 1) to T c ↔ CM ns nw B v s0 T0 h s1 t X to T c := by
  constructor
  · rintro ⟨s, h1, h2, h3⟩
    exact ⟨s, h1, by omega, h3⟩
  · rintro ⟨s, h1, h2, h3⟩
    exact ⟨s, h1, by omega, h3⟩
theorem CM.way {s1 t X to T : Nat} (hT : T < X) (c : Nat) : CM ns nw B v s0 T0 h s1 t X to T c ↔ CM ns nw B v s0 T0 h s1 (t + 1) 0 to T c := by
  constructor
  · rintro ⟨s, h1, h2, h3⟩
    exact ⟨s, h1, by omega, h3⟩
  · rintro ⟨s, h1, h2, h3⟩
    exact ⟨s, h1, by omega, h3⟩
theorem CM.start {s1 to T t : Nat} (ht : t + 1 ≤ s1 ∨ t = 0) (c : Nat) : CM ns nw B v s0 T0 h s1 0 0 to T c ↔ CM ns nw B v s0 T0 h s1 t 0 to T c := by
  constructor
  · rintro ⟨s, h1, h2, h3⟩
    exact ⟨s, h1, by omega, h3⟩
  · rintro ⟨s, h1, h2, h3⟩
    exact ⟨s, h1, by unfold adj at h1; omega, h3⟩
theorem CM.station {s1 to T t : Nat} (ht : ∀ x, adj s1 x → x < ns → x < t) (hto : to < ns) (c : Nat) : CM ns nw B v s0 T0 h s1 t 0 to T c ↔ CM ns nw B v s0 T0 h (s1 + 1) 0 0 to T c := by
  constructor
  · rintro ⟨s, h1, h2, h3⟩
    exact ⟨s, h1, by omega, h3⟩
  · rintro ⟨s, h1, h2, h3⟩
    by_cases e : s = s1
    · subst e
      have := ht to h1 hto
      exact ⟨s, h1, by omega, h3⟩
    · exact ⟨s, h1, by omega, h3⟩
theorem CM.ar {to T : Nat} (hs : ∀ {h s T c}, PT ns nw B v s0 T0 h s T c → s < ns) (hto : to < ns) (c : Nat) : CM ns nw B v s0 T0 h ns 0 0 to T c ↔ AR ns nw B v s0 T0 (h + 1) to T c := by
  constructor
  · rintro ⟨s, h1, h2, h3⟩
    exact ⟨hto, s, h1, h3⟩
  · rintro ⟨-, s, h1, h3⟩
    exact ⟨s, h1, by have := hs h3; omega, h3⟩
theorem CM.z {to T : Nat} (c : Nat) : ¬ CM ns nw B v s0 T0 h 0 0 0 to T c := by
  rintro ⟨s, h1, h2, h3⟩
  omega
/-- the reference: from here, from the left, from the right -/
theorem AR.three {s T c : Nat} (hs : ∀ {h s T c}, PT ns nw B v s0 T0 h s T c → s < ns) (hn : s < ns) : AR ns nw B v s0 T0 (h + 1) s T c ↔ ((PT ns nw B v s0 T0 h s T c ∨ (0 < s ∧ PT ns nw B v s0 T0 h (s - 1) T c)) ∨ (s + 1 < ns ∧ PT ns nw B v s0 T0 h (s + 1) T c)) := by
  constructor
  · rintro ⟨-, s1, h1, h3⟩
    have h4 := hs h3
    unfold adj at h1
    rcases Nat.lt_trichotomy s1 s with e | e | e
    · exact Or.inl (Or.inr ⟨by omega, by rw [show s - 1 = s1 by omega]; exact h3⟩)
    · rw [← e]; exact Or.inl (Or.inl h3)
    · exact Or.inr ⟨by omega, by rw [show s + 1 = s1 by omega]; exact h3⟩
  · rintro ((h3 | ⟨h1, h3⟩) | ⟨h1, h3⟩)
    · exact ⟨hn, s, by unfold adj; omega, h3⟩
    · exact ⟨hn, s - 1, by unfold adj; omega, h3⟩
    · exact ⟨hn, s + 1, by unfold adj; omega, h3⟩
end
