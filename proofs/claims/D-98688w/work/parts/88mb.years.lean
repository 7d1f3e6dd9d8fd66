set_option maxRecDepth 100000
theorem bc_more {d e : Nat} (hd : d < 256) (he : e < 256) : bcn (zn (d ||| e) &&& (zn d ^^^ (-1))) = bcn (zn (d ||| e)) - bcn (zn d) := by
  have hD : d ||| e < 256 := Nat.or_lt_two_pow (n := 8) hd he
  have hz : (d ||| e) &&& (d ^^^ 4294967295) ≤ d ||| e := Nat.and_le_left
  have hb : ∀ i, i < 8 → (((d ||| e) &&& (d ^^^ 4294967295)).testBit i).toNat + (d.testBit i).toNat = ((d ||| e).testBit i).toNat := by
    intro i hi
    rw [Nat.testBit_and, Nat.testBit_xor, Nat.testBit_or, ones_bit i hi]
    cases d.testBit i <;> cases e.testBit i <;> rfl
  have h0 := hb 0 (by omega)
  have h1 := hb 1 (by omega)
  have h2 := hb 2 (by omega)
  have h3 := hb 3 (by omega)
  have h4 := hb 4 (by omega)
  have h5 := hb 5 (by omega)
  have h6 := hb 6 (by omega)
  have h7 := hb 7 (by omega)
  have hs : pc8 ((d ||| e) &&& (d ^^^ 4294967295)) + pc8 d = pc8 (d ||| e) := by
    unfold pc8
    omega
  have hl := pc8_le d
  rw [m1_zn, zn_xor, zn_and, bcn_pc _ (by omega), bcn_pc _ hD, bcn_pc _ hd, zn_sub (by omega), ← hs, Nat.add_sub_cancel]
