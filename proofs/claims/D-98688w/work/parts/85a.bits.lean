set_option maxRecDepth 100000
/-! CALLS THAT CHANGE THE ROAD -/
theorem zn_or (a b : Nat) : zn a ||| zn b = zn (a ||| b) := by
  show Int32.ofBitVec (BitVec.ofNat 32 a ||| BitVec.ofNat 32 b) = Int32.ofBitVec (BitVec.ofNat 32 (a ||| b))
  rw [BitVec.ofNat_or]
theorem bit_zn : ∀ k, k < 8 → (1 : Int32) <<< (zn k &&& 31) = zn (2 ^ k) := by decide +kernel
/-- bits gathered one by one stay below -/
theorem bits_lt {n : Nat} (hn : n ≤ 8) (P : Nat → Bool) (g : Nat → Int32 → Int32) (hg : ∀ e, e < n → ∀ s, g e s = s ||| (if P e = true then (1 : Int32) <<< (zn e &&& 31) else 0)) : ∃ d, d < 2 ^ n ∧ itr g n 0 = zn d := by
  refine itr_inv (fun k s => ∃ d, d < 2 ^ k ∧ s = zn d) ⟨0, by decide, rfl⟩ (fun k hk a hd => ?_)
  obtain ⟨d, h1, h2⟩ := hd
  have hp : 2 ^ (k + 1) = 2 ^ k + 2 ^ k := by rw [Nat.pow_succ]; omega
  have hp1 : 0 < 2 ^ k := Nat.pow_pos (by omega)
  rw [hg k hk, h2]
  by_cases e : P k = true
  · rw [if_pos e, bit_zn k (by omega), zn_or]
    exact ⟨_, Nat.or_lt_two_pow (by omega) (by omega), rfl⟩
  · rw [if_neg e]
    refine ⟨d, by omega, ?_⟩
    show zn d ||| zn 0 = zn d
    rw [zn_or, Nat.or_zero]
section
variable {C : SV} {A A' B : Nat → Int32} {M M1 M2 N : PM} {nT nU nU' ch a : Nat} {bT : Nat → Nat} {U U' : Nat → Nat → Int32} {K : Nat → Bool × (Nat → Int32) × Nat} {l l' : List Int64}
theorem dob_lt (h : OKC C) (d p st : Int32) (w : Nat) : ∃ x, x < 2 ^ C.ne ∧ dob C d p st w = zn x := by
  refine bits_lt h.ne8 (fun e => decide (zn (C.who e) = p) && (decide (zn (C.wh e) = st) && (decide (¬ ((d >>> (zn e &&& 31)) &&& 1) = 1) && decide (mns C w (zn (C.em e)))))) _ (fun e _ s => ?_)
  congr 1
  by_cases c1 : zn (C.who e) = p <;> by_cases c2 : zn (C.wh e) = st <;> by_cases c3 : ((d >>> (zn e &&& 31)) &&& 1) = 1 <;> by_cases c4 : mns C w (zn (C.em e)) <;> simp [c1, c2, c3, c4]
theorem opn_lt (h : OKC C) (d p : Int32) : ∃ x, x < 2 ^ C.ne ∧ opn C d p = zn x := by
  refine bits_lt h.ne8 (fun e => decide (zn (C.who e) = p) && decide (¬ ((d >>> (zn e &&& 31)) &&& 1) = 1)) _ (fun e _ s => ?_)
  congr 1
  by_cases c1 : zn (C.who e) = p <;> by_cases c3 : ((d >>> (zn e &&& 31)) &&& 1) = 1 <;> simp [c1, c3]
end
