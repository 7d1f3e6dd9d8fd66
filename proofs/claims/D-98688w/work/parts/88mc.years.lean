set_option maxRecDepth 100000
section
variable {C : SV} {A : Nat → Int32} {M M1 : PM} {l : List Int64}
theorem yrT_s (C : SV) (A : Nat → Int32) (r : Int32) (k : Nat) : yrT C A r (k + 1) = yrS C (yrT C A r k) := by
  unfold yrT
  rw [itr_s]
theorem yrT_ok (hC : OKC C) (hT : 0 < C.nt) (hW : 0 < C.nw) (hA : OKA C A) (r : Int32) : ∀ k, OKA C (yrT C A r k).1 := by
  intro k
  induction k with
  | zero => exact hA
  | succ k ih =>
    rw [yrT_s]
    exact yr_ok hC hT hW ih
end
