set_option maxRecDepth 100000
section
variable {C : SV} {A A' B : Nat → Int32} {M M1 M2 N : PM} {nT nU nU' ch a : Nat} {bT : Nat → Nat} {U U' : Nat → Nat → Int32} {K : Nat → Bool × (Nat → Int32) × Nat} {l l' : List Int64}
def almA (A : Nat → Int32) (t u m n k : Nat) : Nat → Int32 := fun j => if j = 4 + u then zn (min 9999 (n + k)) else if j = 4 + t then zn (m - k) else A j
theorem ok_alm (h : OKA C A) (hC : OKC C) {t u m n k : Nat} (hm : m ≤ 9999) : OKA C (almA A t u m n k) ∨ ¬ (t < C.nt ∧ u < C.nt) := by
  have := hC.nt4
  by_cases g : t < C.nt ∧ u < C.nt
  · left
    obtain ⟨g1, g2⟩ := g
    refine ⟨fun v hv => ?_, ?_, fun v hv => ?_⟩
    · unfold almA
      rw [if_neg (by omega), if_neg (by omega)]; exact h.1 v hv
    · unfold almA
      rw [if_neg (by omega), if_neg (by omega)]; exact h.2.1
    · unfold almA
      by_cases e : v = u
      · rw [if_pos (by omega)]; exact ⟨_, by omega, rfl⟩
      · rw [if_neg (by omega)]
        by_cases e : v = t
        · rw [if_pos (by omega)]; exact ⟨_, by omega, rfl⟩
        · rw [if_neg (by omega)]; exact h.2.2 v hv
  · exact Or.inr g
theorem tin {t n : Nat} (h : t < n) (hn : n < 2147483648) : 0 ≤ zn t ∧ zn t ≤ zn n - 1 := by
  refine ⟨zn_nonneg (by omega), ?_⟩
  rw [show (1 : Int32) = zn 1 from rfl, zn_sub (by omega), zn_le (by omega) (by omega)]
  omega
theorem zn_4l (t : Nat) : (4 : Int32) + zn t = zn (4 + t) := zn_add 4 t
theorem x_in_1 (p : Int32) (M : PM) : x_in p.toInt64 1 9999 M = some (if 1 ≤ p ∧ p ≤ 9999 then 1 else 0, M) := x_in32 p 1 9999 M
end
