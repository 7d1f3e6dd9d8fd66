set_option maxRecDepth 100000
/-! RULES AS TEXTS: what a text means (b: its bytes, e: its end) -/
def Dn : Type := (Nat → Int32) → Int32
def isop (rank c : Nat) : Bool := if rank = 0 then c == 60 || c == 62 || c == 61 else if rank = 1 then c == 43 || c == 45 else c == 42 || c == 47
def cmb (s : Int32) (a b : Int32) : Int32 := if s = 42 then a * b else if s = 43 then a + b else if s = 45 then a - b else if s = 47 then (if b = 0 then 0 else a / b) else if s = 60 then (if b ≤ a then 0 else 1) else if s = 62 then (if a ≤ b then 0 else 1) else if a = b then 1 else 0
def lx (c : Int32) : Nat := if c = 104 then 2 else if c = 108 then 3 else if c = 110 then 5 else if c = 112 then 4 else if c = 115 then 1 else if c = 118 then 0 else 6
def isl (c : Nat) : Bool := c == 118 || c == 115 || c == 104 || c == 108 || c == 112 || c == 110 || c == 100
def isd (c : Nat) : Bool := decide (48 ≤ c) && decide (c ≤ 57)
/-- a number of at most d digits from p on: its end, its value -/
def num (b : Nat → Nat) (e : Nat) : Nat → Nat → Nat → Nat × Nat
  | 0, p, v => (p, v)
  | d + 1, p, v => if p < e ∧ isd (b p) = true then num b e d (p + 1) (10 * v + (b p - 48)) else (p, v)
def pbn (r : Nat × Option Dn) (f : Nat → Dn → Nat × Option Dn) : Nat × Option Dn := match r.2 with
  | none => (r.1, none)
  | some D => f r.1 D
def plp (sub : Nat → Nat × Option Dn) (b : Nat → Nat) (e rank : Nat) : Nat → Nat → Dn → Nat × Option Dn
  | 0, p, _ => (p, none)
  | f + 1, p, D => if p < e ∧ isop rank (b p) = true then pbn (sub (p + 1)) (fun q E => if rank = 0 then (q, some (fun a => cmb (zn (b p)) (D a) (E a))) else plp sub b e rank f q (fun a => cmb (zn (b p)) (D a) (E a))) else (p, some D)
def pz (b : Nat → Nat) (e : Nat) : Nat → Nat → Nat → Nat → Nat × Option Dn
  | 0, _, _, p => (p, none)
  | k + 1, rank, nest, p =>
    if rank = 3 then
      (if p < e ∧ b p = 45 then pbn (pz b e k 3 nest (p + 1)) (fun q D => (q, some (fun a => -(D a))))
      else if p < e ∧ isd (b p) = true then ((num b e 3 p 0).1, some (fun _ => zn (num b e 3 p 0).2))
      else if p < e ∧ isl (b p) = true then (p + 1, some (fun a => a (lx (zn (b p)))))
      else if (p < e ∧ b p = 40) ∧ nest < 4 then pbn (pz b e k 0 (nest + 1) (p + 1)) (fun q D => if q < e ∧ b q = 41 then (q + 1, some D) else (q, none))
      else (p, none))
    else pbn (pz b e k (rank + 1) nest p) (fun q D => plp (fun r => pz b e k (rank + 1) nest r) b e rank 41 q D)
/-- a rule read from the beginning -/
def prs (b : Nat → Nat) (e : Nat) : Nat × Option Dn := pz b e 100 0 0 0
theorem num_ge (b : Nat → Nat) (e : Nat) : ∀ d p v, p ≤ (num b e d p v).1 ∧ ((num b e d p v).1 ≤ e ∨ (num b e d p v).1 = p) := by
  intro d
  induction d with
  | zero => intro p v; exact ⟨Nat.le_refl _, Or.inr rfl⟩
  | succ d ih =>
    intro p v
    unfold num
    split
    · rename_i h
      obtain ⟨h1, h2⟩ := ih (p + 1) (10 * v + (b p - 48))
      refine ⟨by omega, ?_⟩
      rcases h2 with h2 | h2 <;> omega
    · exact ⟨Nat.le_refl _, Or.inr rfl⟩
theorem num_lt (b : Nat → Nat) (e : Nat) : ∀ d p v m, v < m → (num b e d p v).2 < m * 10 ^ d := by
  intro d
  induction d with
  | zero => intro p v m h; simpa [num] using h
  | succ d ih =>
    intro p v m h
    unfold num
    split
    · rename_i g
      have h1 : b p - 48 ≤ 9 := by
        have := g.2
        simp only [isd, Bool.and_eq_true, decide_eq_true_eq] at this
        omega
      have := ih (p + 1) (10 * v + (b p - 48)) (m * 10) (by omega)
      have e9 : m * 10 * 10 ^ d = m * (10 ^ d * 10) := by rw [Nat.mul_assoc, Nat.mul_comm 10 (10 ^ d)]
      rw [Nat.pow_succ, ← e9]
      exact this
    · have : 1 ≤ 10 ^ (d + 1) := Nat.one_le_pow _ _ (by omega)
      have : m * 1 ≤ m * 10 ^ (d + 1) := Nat.mul_le_mul_left _ this
      show v < _
      omega
theorem pbn_ge {r : Nat × Option Dn} {f : Nat → Dn → Nat × Option Dn} {p e : Nat} (hr : p ≤ r.1 ∧ (r.1 ≤ e ∨ r.1 = p)) (hf : ∀ D, r.2 = some D → p ≤ (f r.1 D).1 ∧ ((f r.1 D).1 ≤ e ∨ (f r.1 D).1 = p)) : p ≤ (pbn r f).1 ∧ ((pbn r f).1 ≤ e ∨ (pbn r f).1 = p) := by
  unfold pbn
  split
  · exact hr
  · exact hf _ (by assumption)
/-- reading goes on, and not beyond the end -/
theorem plp_ge (sub : Nat → Nat × Option Dn) (b : Nat → Nat) (e rank : Nat) (hs : ∀ p, p ≤ (sub p).1 ∧ ((sub p).1 ≤ e ∨ (sub p).1 = p)) : ∀ f p D, p ≤ (plp sub b e rank f p D).1 ∧ ((plp sub b e rank f p D).1 ≤ e ∨ (plp sub b e rank f p D).1 = p) := by
  intro f
  induction f with
  | zero => intro p D; exact ⟨Nat.le_refl _, Or.inr rfl⟩
  | succ f ih =>
    intro p D
    unfold plp
    split
    · rename_i h
      have h1 := hs (p + 1)
      have key : p ≤ (sub (p + 1)).1 ∧ ((sub (p + 1)).1 ≤ e ∨ (sub (p + 1)).1 = p) := by
        refine ⟨by omega, ?_⟩
        rcases h1.2 with q | q <;> omega
      refine pbn_ge key (fun E _ => ?_)
      split
      · exact key
      · have h2 := ih (sub (p + 1)).1 (fun a => cmb (zn (b p)) (D a) (E a))
        refine ⟨by omega, ?_⟩
        rcases h2.2 with q | q
        · exact Or.inl q
        · rw [q]; exact key.2
    · exact ⟨Nat.le_refl _, Or.inr rfl⟩
theorem pz_ge (b : Nat → Nat) (e : Nat) : ∀ k rank nest p, p ≤ (pz b e k rank nest p).1 ∧ ((pz b e k rank nest p).1 ≤ e ∨ (pz b e k rank nest p).1 = p) := by
  intro k
  induction k with
  | zero => intro rank nest p; exact ⟨Nat.le_refl _, Or.inr rfl⟩
  | succ k ih =>
    intro rank nest p
    unfold pz
    split
    · split
      · rename_i h
        have h1 := ih 3 nest (p + 1)
        have key : p ≤ (pz b e k 3 nest (p + 1)).1 ∧ ((pz b e k 3 nest (p + 1)).1 ≤ e ∨ (pz b e k 3 nest (p + 1)).1 = p) := by
          refine ⟨by omega, ?_⟩
          rcases h1.2 with q | q <;> omega
        exact pbn_ge key (fun D _ => key)
      · split
        · exact num_ge b e 3 p 0
        · split
          · rename_i h
            exact ⟨by show p ≤ p + 1; omega, Or.inl (by show p + 1 ≤ e; omega)⟩
          · split
            · rename_i h
              have h1 := ih 0 (nest + 1) (p + 1)
              have key : p ≤ (pz b e k 0 (nest + 1) (p + 1)).1 ∧ ((pz b e k 0 (nest + 1) (p + 1)).1 ≤ e ∨ (pz b e k 0 (nest + 1) (p + 1)).1 = p) := by
                refine ⟨by omega, ?_⟩
                rcases h1.2 with q | q <;> omega
              refine pbn_ge key (fun D _ => ?_)
              split
              · rename_i g
                refine ⟨?_, Or.inl ?_⟩
                · show p ≤ (pz b e k 0 (nest + 1) (p + 1)).1 + 1
                  omega
                · show (pz b e k 0 (nest + 1) (p + 1)).1 + 1 ≤ e
                  omega
              · exact key
            · exact ⟨Nat.le_refl _, Or.inr rfl⟩
    · refine pbn_ge (ih (rank + 1) nest p) (fun D _ => ?_)
      have h1 := ih (rank + 1) nest p
      have h2 := plp_ge (fun r => pz b e k (rank + 1) nest r) b e rank (fun q => ih (rank + 1) nest q) 41 (pz b e k (rank + 1) nest p).1 D
      refine ⟨by omega, ?_⟩
      rcases h2.2 with q | q
      · exact Or.inl q
      · rw [q]; exact h1.2
