set_option maxRecDepth 100000
/-! SAID: the ways, as lists of words -/
def lpc {α : Type} (g : Nat → List α) : Nat → Nat → List α
  | 0, _ => []
  | n + 1, w => g w ++ lpc g n (w + 1)
theorem lpc_mem {α : Type} {g : Nat → List α} {s : α} : ∀ n f, s ∈ lpc g n f → ∃ w, f ≤ w ∧ w < f + n ∧ s ∈ g w := by
  intro n
  induction n with
  | zero => intro f h; cases h
  | succ n ih =>
    intro f h
    rcases List.mem_append.mp h with h | h
    · exact ⟨f, Nat.le_refl _, by omega, h⟩
    · obtain ⟨w, h1, h2, h3⟩ := ih (f + 1) h
      exact ⟨w, by omega, by omega, h3⟩
theorem lpc_pw {α : Type} {g : Nat → List α} {R : α → α → Prop} (h1 : ∀ w, (g w).Pairwise R) (h2 : ∀ w w', w < w' → ∀ a, a ∈ g w → ∀ b, b ∈ g w' → R a b) : ∀ n f, (lpc g n f).Pairwise R := by
  intro n
  induction n with
  | zero => intro f; exact List.Pairwise.nil
  | succ n ih =>
    intro f
    refine List.pairwise_append.mpr ⟨h1 f, ih (f + 1), fun a ha b hb => ?_⟩
    obtain ⟨w, g1, g2, g3⟩ := lpc_mem n (f + 1) hb
    exact h2 f w (by omega) a ha b g3
theorem lpc_filter {α : Type} {g g' : Nat → List α} {p : α → Bool} (h : ∀ w, (g w).filter p = g' w) : ∀ n f, (lpc g n f).filter p = lpc g' n f := by
  intro n
  induction n with
  | zero => intro f; rfl
  | succ n ih =>
    intro f
    show (g f ++ lpc g n (f + 1)).filter p = g' f ++ lpc g' n (f + 1)
    rw [List.filter_append, h, ih]
theorem lpc_nil {α : Type} {g : Nat → List α} (h : ∀ w, g w = []) : ∀ n f, lpc g n f = [] := by
  intro n
  induction n with
  | zero => intro f; rfl
  | succ n ih =>
    intro f
    show g f ++ lpc g n (f + 1) = []
    rw [h, ih]
    rfl
theorem lpc_len {α : Type} {g : Nat → List α} {B : Nat} (h : ∀ w, (g w).length ≤ B) : ∀ n f, (lpc g n f).length ≤ n * B := by
  intro n
  induction n with
  | zero => intro f; exact Nat.zero_le _
  | succ n ih =>
    intro f
    show (g f ++ lpc g n (f + 1)).length ≤ _
    have h1 := h f
    have h2 := ih (f + 1)
    rw [List.length_append, Nat.succ_mul]
    omega
theorem lpc_map {α β : Type} {g : Nat → List α} (u : α → β) : ∀ n f, (lpc g n f).map u = lpc (fun w => (g w).map u) n f := by
  intro n
  induction n with
  | zero => intro f; rfl
  | succ n ih =>
    intro f
    show (g f ++ lpc g n (f + 1)).map u = (g f).map u ++ lpc (fun w => (g w).map u) n (f + 1)
    rw [List.map_append, ih]
def lxl : List Nat → List Nat → Bool
  | a :: s, b :: t => if a = b then lxl s t else decide (a < b)
  | _, _ => false
def Rlx (b s : List Nat) : Prop := b.length = s.length → lxl s b = false
section
variable {σ : Type} (zz : σ → Bool) (tk : σ → Nat → σ) (nw : Nat)
def ownL (L : σ) : List (List Nat) := if zz L = true then [[]] else []
def solL : Nat → Nat → σ → List (List Nat)
  | 0, _, L => ownL zz L
  | d + 1, f, L => lpc (fun w => (solL d w (tk L w)).map (List.cons w)) (nw - f) f
def preL : Nat → Nat → σ → List (List Nat)
  | 0, _, L => ownL zz L
  | d + 1, f, L => ownL zz L ++ lpc (fun w => (preL d w (tk L w)).map (List.cons w)) (nw - f) f
def prr (L : σ) : List (List Nat) := lpc (fun w => (preL zz tk nw 3 w (tk L w)).map (List.cons w)) nw 0
variable {zz tk nw}
theorem own_mem {L : σ} {s : List Nat} (h : s ∈ ownL zz L) : s = [] := by
  unfold ownL at h
  split at h
  · exact List.mem_singleton.mp h
  · cases h
theorem own_f0 (L : σ) : (ownL zz L).filter (fun s => s.length == 0) = ownL zz L := by
  unfold ownL
  split <;> rfl
theorem own_fs (L : σ) (j : Nat) : (ownL zz L).filter (fun s => s.length == j + 1) = [] := by
  unfold ownL
  split
  · rw [List.filter_cons_of_neg (by simp)]
    rfl
  · rfl
theorem fl_cons0 (w : Nat) (l : List (List Nat)) : (l.map (List.cons w)).filter (fun s => s.length == 0) = [] := by
  induction l with
  | nil => rfl
  | cons a l ih =>
    rw [List.map_cons, List.filter_cons_of_neg (by simp), ih]
theorem fl_conss (w j : Nat) (l : List (List Nat)) : (l.map (List.cons w)).filter (fun s => s.length == j + 1) = (l.filter (fun s => s.length == j)).map (List.cons w) := by
  induction l with
  | nil => rfl
  | cons a l ih =>
    rw [List.map_cons]
    by_cases h : a.length = j
    · rw [List.filter_cons_of_pos (by simp [h]), List.filter_cons_of_pos (by simp [h]), List.map_cons, ih]
    · rw [List.filter_cons_of_neg (by simp [h]), List.filter_cons_of_neg (by simp [h]), ih]
theorem pre_filter : ∀ d f (L : σ) j, j ≤ d → (preL zz tk nw d f L).filter (fun s => s.length == j) = solL zz tk nw j f L := by
  intro d
  induction d with
  | zero =>
    intro f L j hj
    have : j = 0 := by omega
    subst this
    exact own_f0 L
  | succ d ih =>
    intro f L j hj
    show (ownL zz L ++ lpc _ (nw - f) f).filter _ = _
    rw [List.filter_append]
    cases j with
    | zero =>
      rw [own_f0, lpc_filter (g' := fun _ => []) (fun w => fl_cons0 w _), lpc_nil (fun _ => rfl), List.append_nil]
      rfl
    | succ j =>
      rw [own_fs, lpc_filter (g' := fun w => (solL zz tk nw j w (tk L w)).map (List.cons w)) (fun w => by rw [fl_conss, ih w _ j (by omega)]), List.nil_append]
      rfl
theorem prr_filter (L : σ) (j : Nat) (hj : j ≤ 3) : (prr zz tk nw L).filter (fun s => s.length == j + 1) = solL zz tk nw (j + 1) 0 L := by
  show (lpc _ nw 0).filter _ = lpc _ (nw - 0) 0
  rw [lpc_filter (g' := fun w => (solL zz tk nw j w (tk L w)).map (List.cons w)) (fun w => by rw [fl_conss, pre_filter 3 w _ j hj]), Nat.sub_zero]
theorem pre_le : ∀ d f (L : σ) s, s ∈ preL zz tk nw d f L → s.length ≤ d := by
  intro d
  induction d with
  | zero =>
    intro f L s h
    rw [own_mem h]
    exact Nat.le_refl _
  | succ d ih =>
    intro f L s h
    rcases List.mem_append.mp h with h | h
    · rw [own_mem h]; exact Nat.zero_le _
    · obtain ⟨w, -, -, h3⟩ := lpc_mem _ _ h
      obtain ⟨t, h4, h5⟩ := List.mem_map.mp h3
      rw [← h5]
      exact Nat.succ_le_succ (ih w _ t h4)
theorem prr_ok (L : σ) (s : List Nat) (h : s ∈ prr zz tk nw L) : 1 ≤ s.length ∧ s.length ≤ 4 := by
  obtain ⟨w, -, -, h3⟩ := lpc_mem _ _ h
  obtain ⟨t, h4, h5⟩ := List.mem_map.mp h3
  have := pre_le 3 w _ t h4
  rw [← h5]
  show 1 ≤ t.length + 1 ∧ t.length + 1 ≤ 4
  omega
theorem cons_pw (w : Nat) {l : List (List Nat)} (h : l.Pairwise Rlx) : (l.map (List.cons w)).Pairwise Rlx := by
  refine List.pairwise_map.mpr (h.imp (fun {a b} r e => ?_))
  show (if w = w then lxl b a else decide (w < w)) = false
  rw [if_pos rfl]
  exact r (by simpa using e)
theorem cons_lt (w w' : Nat) (hw : w < w') (l l' : List (List Nat)) (a : List Nat) (ha : a ∈ l.map (List.cons w)) (b : List Nat) (hb : b ∈ l'.map (List.cons w')) : Rlx a b := by
  obtain ⟨s, -, rfl⟩ := List.mem_map.mp ha
  obtain ⟨t, -, rfl⟩ := List.mem_map.mp hb
  intro _
  show (if w' = w then lxl t s else decide (w' < w)) = false
  rw [if_neg (by omega)]
  exact decide_eq_false (by omega)
theorem pre_pw : ∀ d f (L : σ), (preL zz tk nw d f L).Pairwise Rlx := by
  have ho : ∀ L : σ, (ownL zz L).Pairwise Rlx := by
    intro L
    unfold ownL
    split
    · exact List.pairwise_singleton _ _
    · exact List.Pairwise.nil
  intro d
  induction d with
  | zero => intro f L; exact ho L
  | succ d ih =>
    intro f L
    refine List.pairwise_append.mpr ⟨ho L, lpc_pw (fun w => cons_pw w (ih w _)) (fun w w' hw => cons_lt w w' hw _ _) _ _, fun a ha b hb => ?_⟩
    rw [own_mem ha]
    obtain ⟨w, -, -, h3⟩ := lpc_mem _ _ hb
    obtain ⟨t, -, rfl⟩ := List.mem_map.mp h3
    intro e
    exact absurd e (by simp)
theorem prr_pw (L : σ) : (prr zz tk nw L).Pairwise Rlx := lpc_pw (fun w => cons_pw w (pre_pw 3 w _)) (fun w w' hw => cons_lt w w' hw _ _) _ _
theorem own_len (L : σ) : (ownL zz L).length ≤ 1 := by
  unfold ownL
  split
  · exact Nat.le_refl _
  · exact Nat.zero_le _
theorem pre_len (hn : nw ≤ 10) : ∀ d f (L : σ), (preL zz tk nw d f L).length ≤ 12 ^ d := by
  intro d
  induction d with
  | zero => intro f L; exact own_len L
  | succ d ih =>
    intro f L
    have h1 := own_len (zz := zz) L
    have h2 := lpc_len (g := fun w => (preL zz tk nw d w (tk L w)).map (List.cons w)) (B := 12 ^ d) (fun w => by rw [List.length_map]; exact ih w _) (nw - f) f
    have h3 : (nw - f) * 12 ^ d ≤ 10 * 12 ^ d := Nat.mul_le_mul_right _ (by omega)
    have h4 : 0 < 12 ^ d := Nat.pow_pos (by omega)
    show (ownL zz L ++ lpc _ (nw - f) f).length ≤ _
    rw [List.length_append, Nat.pow_succ]
    omega
theorem prr_len (hn : nw ≤ 10) (L : σ) : (prr zz tk nw L).length ≤ 20000 := by
  have h2 := lpc_len (g := fun w => (preL zz tk nw 3 w (tk L w)).map (List.cons w)) (B := 12 ^ 3) (fun w => by rw [List.length_map]; exact pre_len hn 3 w _) nw 0
  have h3 : nw * 12 ^ 3 ≤ 10 * 12 ^ 3 := Nat.mul_le_mul_right _ hn
  show (lpc _ nw 0).length ≤ _
  omega
theorem pre_lt : ∀ d f (L : σ) s, s ∈ preL zz tk nw d f L → ∀ x, x ∈ s → x < nw := by
  intro d
  induction d with
  | zero =>
    intro f L s h x hx
    rw [own_mem h] at hx
    cases hx
  | succ d ih =>
    intro f L s h x hx
    rcases List.mem_append.mp h with h | h
    · rw [own_mem h] at hx; cases hx
    · obtain ⟨w, h1, h2, h3⟩ := lpc_mem _ _ h
      obtain ⟨t, h4, h5⟩ := List.mem_map.mp h3
      rw [← h5] at hx
      rcases List.mem_cons.mp hx with e | hx
      · omega
      · exact ih w _ t h4 x hx
theorem prr_lt (L : σ) (s : List Nat) (h : s ∈ prr zz tk nw L) : ∀ x, x ∈ s → x < nw := by
  intro x hx
  obtain ⟨w, h1, h2, h3⟩ := lpc_mem _ _ h
  obtain ⟨t, h4, h5⟩ := List.mem_map.mp h3
  rw [← h5] at hx
  rcases List.mem_cons.mp hx with e | hx
  · omega
  · exact pre_lt 3 w _ t h4 x hx
theorem sol_nil {ng : Nat → σ → Prop} (h1 : ∀ d L, ng d L → zz L = false) (h2 : ∀ d L w, w < nw → ng (d + 1) L → ng d (tk L w)) : ∀ d f (L : σ), ng d L → solL zz tk nw d f L = [] := by
  intro d
  induction d with
  | zero =>
    intro f L h
    show ownL zz L = []
    unfold ownL
    rw [h1 0 L h]
    rfl
  | succ d ih =>
    intro f L h
    have : ∀ n g, g + n ≤ nw → lpc (fun w => (solL zz tk nw d w (tk L w)).map (List.cons w)) n g = [] := by
      intro n
      induction n with
      | zero => intro g _; rfl
      | succ n ihn =>
        intro g hg
        show (solL zz tk nw d g (tk L g)).map (List.cons g) ++ lpc _ n (g + 1) = []
        rw [ih g _ (h2 d L g (by omega) h), ihn (g + 1) (by omega)]
        rfl
    by_cases hf : f ≤ nw
    · exact this _ _ (by omega)
    · show lpc _ (nw - f) f = []
      rw [show nw - f = 0 by omega]
      rfl
end
/-- the first of the shortest -/
def bsS : Option (List Nat) → List Nat → Option (List Nat)
  | none, s => some s
  | some b, s => if s.length < b.length then some s else some b
def bs4 (l : List (List Nat)) : Option (List Nat) := (l.filter (fun s => s.length == 0 + 1) ++ (l.filter (fun s => s.length == 1 + 1) ++ (l.filter (fun s => s.length == 2 + 1) ++ l.filter (fun s => s.length == 3 + 1)))).head?
theorem bs4_mem {l : List (List Nat)} {b : List Nat} (h : bs4 l = some b) : b ∈ l := by
  have := List.mem_of_head? h
  simp only [List.mem_append, List.mem_filter] at this
  rcases this with h | h | h | h <;> exact h.1
theorem fl_hd (l : List (List Nat)) (j : Nat) : l.filter (fun s => s.length == j) = [] ∨ ∃ b t, l.filter (fun s => s.length == j) = b :: t ∧ b.length = j := by
  rcases e : l.filter (fun s => s.length == j) with _ | ⟨b, t⟩
  · exact Or.inl e
  · refine Or.inr ⟨b, t, e, ?_⟩
    have : b ∈ l.filter (fun s => s.length == j) := by rw [e]; exact List.mem_cons_self
    have := (List.mem_filter.mp this).2
    simpa using this
theorem bs4_snoc (l : List (List Nat)) (s : List Nat) (h : 1 ≤ s.length ∧ s.length ≤ 4) : bs4 (l ++ [s]) = bsS (bs4 l) s := by
  unfold bs4
  simp only [List.filter_append]
  have hs : ∀ j, ([s] : List (List Nat)).filter (fun s => s.length == j) = if s.length = j then [s] else [] := by
    intro j
    by_cases e : s.length = j
    · rw [if_pos e, List.filter_cons_of_pos (by simp [e])]; rfl
    · rw [if_neg e, List.filter_cons_of_neg (by simp [e])]; rfl
  simp only [hs]
  rcases fl_hd l (0 + 1) with e1 | ⟨b1, t1, e1, f1⟩ <;> rcases fl_hd l (1 + 1) with e2 | ⟨b2, t2, e2, f2⟩ <;> rcases fl_hd l (2 + 1) with e3 | ⟨b3, t3, e3, f3⟩ <;> rcases fl_hd l (3 + 1) with e4 | ⟨b4, t4, e4, f4⟩ <;> rw [e1, e2, e3, e4] <;>
    (have hc : s.length = 1 ∨ s.length = 2 ∨ s.length = 3 ∨ s.length = 4 := by omega) <;> rcases hc with hc | hc | hc | hc <;> simp [bsS, hc, *]
theorem l4_len : ∀ l : List (List Nat), (∀ s, s ∈ l → 1 ≤ s.length ∧ s.length ≤ 4) → l.length = (l.filter (fun s => s.length == 0 + 1) ++ (l.filter (fun s => s.length == 1 + 1) ++ (l.filter (fun s => s.length == 2 + 1) ++ l.filter (fun s => s.length == 3 + 1)))).length := by
  intro l
  induction l with
  | nil => intro _; rfl
  | cons a l ih =>
    intro h
    have h1 := h a List.mem_cons_self
    have h2 := ih (fun s hs => h s (List.mem_cons_of_mem _ hs))
    simp only [List.length_append] at h2 ⊢
    have hc : a.length = 1 ∨ a.length = 2 ∨ a.length = 3 ∨ a.length = 4 := by omega
    rcases hc with hc | hc | hc | hc <;> simp [List.filter_cons, hc] at h2 ⊢ <;> omega
theorem bs4_none {l : List (List Nat)} (h : ∀ s, s ∈ l → 1 ≤ s.length ∧ s.length ≤ 4) (e : l ≠ []) : ∃ b, bs4 l = some b := by
  rcases g : bs4 l with _ | b
  · exfalso
    have h1 := l4_len l h
    unfold bs4 at g
    rw [List.head?_eq_none_iff] at g
    rw [g] at h1
    exact e (List.length_eq_zero_iff.mp h1)
  · exact ⟨b, rfl⟩
