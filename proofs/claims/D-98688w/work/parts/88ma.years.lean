set_option maxRecDepth 100000
def pc8 (a : Nat) : Nat := (a.testBit 0).toNat + (a.testBit 1).toNat + (a.testBit 2).toNat + (a.testBit 3).toNat + (a.testBit 4).toNat + (a.testBit 5).toNat + (a.testBit 6).toNat + (a.testBit 7).toNat
theorem bcn_pc : ∀ a, a < 256 → bcn (zn a) = zn (pc8 a) := by decide +kernel
theorem pc8_le (a : Nat) : pc8 a ≤ 8 := by
  have h : ∀ b : Bool, b.toNat ≤ 1 := by decide
  have h0 := h (a.testBit 0)
  have h1 := h (a.testBit 1)
  have h2 := h (a.testBit 2)
  have h3 := h (a.testBit 3)
  have h4 := h (a.testBit 4)
  have h5 := h (a.testBit 5)
  have h6 := h (a.testBit 6)
  have h7 := h (a.testBit 7)
  unfold pc8
  omega
