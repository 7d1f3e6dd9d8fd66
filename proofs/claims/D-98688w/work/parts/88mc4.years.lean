set_option maxRecDepth 100000
section
variable {C : SV} {A : Nat → Int32} {M M1 : PM} {l : List Int64}
theorem yrT_0 (C : SV) (A : Nat → Int32) (r : Int32) : yrT C A r 0 = (A, r, 0, 0) := rfl
/-- what was done stays done -/
theorem yrT_done (hC : OKC C) (hT : 0 < C.nt) {d : Nat} (hd : A 13 = zn d) (r : Int32) (k : Nat) : ∃ e, e < 256 ∧ (yrT C A r k).1 13 = zn (d ||| e) := by
  induction k with
  | zero =>
    refine ⟨0, by omega, ?_⟩
    rw [yrT_0, Nat.or_zero]
    exact hd
  | succ k ih =>
    obtain ⟨e, he, h1⟩ := ih
    rw [yrT_s]
    exact yrS_done hC hT he h1
end
