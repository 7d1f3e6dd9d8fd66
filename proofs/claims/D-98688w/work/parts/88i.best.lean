set_option maxRecDepth 100000
/-! BEST: sets of errands -/
theorem zn_and (a b : Nat) : zn a &&& zn b = zn (a &&& b) := by
  show Int32.ofBitVec (BitVec.ofNat 32 a &&& BitVec.ofNat 32 b) = Int32.ofBitVec (BitVec.ofNat 32 (a &&& b))
  rw [BitVec.ofNat_and]
theorem zn_xor (a b : Nat) : zn a ^^^ zn b = zn (a ^^^ b) := by
  show Int32.ofBitVec (BitVec.ofNat 32 a ^^^ BitVec.ofNat 32 b) = Int32.ofBitVec (BitVec.ofNat 32 (a ^^^ b))
  rw [BitVec.ofNat_xor]
theorem m1_zn : (-1 : Int32) = zn 4294967295 := by decide
theorem zn_m1 (a : Nat) : zn a &&& (-1) = zn a := Int32.and_neg_one
theorem hsb_bit : ∀ o, o < 256 → ∀ e, e < 8 → hsb o e = o.testBit e := by decide +kernel
theorem ones_bit : ∀ i, i < 8 → (4294967295 : Nat).testBit i = true := by decide
/-- what is left of o behind k places -/
def xNk (P : Nat → Bool) (o : Nat) (k : Nat) : Nat := itr (fun e s => if P e = true then s else s &&& (2 ^ e ^^^ 4294967295)) k o
def mNk (P : Nat → Bool) (o : Nat) (k : Nat) : Nat := itr (fun e s => if o.testBit e = true ∧ P e = true then s ||| 2 ^ e else s) k 0
theorem xNk_s (P : Nat → Bool) (o k : Nat) : xNk P o (k + 1) = if P k = true then xNk P o k else xNk P o k &&& (2 ^ k ^^^ 4294967295) := rfl
theorem mNk_s (P : Nat → Bool) (o k : Nat) : mNk P o (k + 1) = if o.testBit k = true ∧ P k = true then mNk P o k ||| 2 ^ k else mNk P o k := rfl
theorem xNk_b (P : Nat → Bool) (o : Nat) {i : Nat} (hi : i < 8) : ∀ k, (xNk P o k).testBit i = (o.testBit i && (decide (k ≤ i) || P i)) := by
  intro k
  induction k with
  | zero =>
    show o.testBit i = _
    simp
  | succ k ih =>
    rw [xNk_s]
    by_cases h : P k = true
    · rw [if_pos h, ih]
      by_cases e : k = i
      · subst e; simp [h]
      · by_cases g : k ≤ i
        · have g2 : k + 1 ≤ i := by omega
          simp [g, g2]
        · have g2 : ¬ k + 1 ≤ i := by omega
          simp [g, g2]
    · rw [if_neg h, Nat.testBit_and, Nat.testBit_xor, ih, ones_bit i hi, Nat.testBit_two_pow]
      by_cases e : k = i
      · subst e
        have : ¬ k + 1 ≤ k := by omega
        simp [h]
      · by_cases g : k ≤ i
        · have g2 : k + 1 ≤ i := by omega
          simp [g, g2, e]
        · have g2 : ¬ k + 1 ≤ i := by omega
          simp [g, g2, e]
theorem mNk_b (P : Nat → Bool) (o : Nat) (i : Nat) : ∀ k, (mNk P o k).testBit i = (decide (i < k) && (o.testBit i && P i)) := by
  intro k
  induction k with
  | zero =>
    show (0 : Nat).testBit i = _
    simp
  | succ k ih =>
    rw [mNk_s]
    by_cases h : o.testBit k = true ∧ P k = true
    · rw [if_pos h, Nat.testBit_or, ih, Nat.testBit_two_pow]
      by_cases e : k = i
      · subst e; simp [h.1, h.2]
      · by_cases g : i < k
        · have g2 : i < k + 1 := by omega
          simp [g, g2, e]
        · have g2 : ¬ i < k + 1 := by omega
          simp [g, g2, e]
    · rw [if_neg h, ih]
      by_cases e : k = i
      · subst e
        simp only [Nat.lt_irrefl, decide_false, Bool.false_and]
        cases h1 : o.testBit k <;> cases h2 : P k <;> simp_all
      · by_cases g : i < k
        · have g2 : i < k + 1 := by omega
          simp [g, g2]
        · have g2 : ¬ i < k + 1 := by omega
          simp [g, g2]
theorem mNk_lt (P : Nat → Bool) (o : Nat) : ∀ k, mNk P o k < 2 ^ k := by
  intro k
  induction k with
  | zero => exact Nat.one_pos
  | succ k ih =>
    have hp : 2 ^ (k + 1) = 2 ^ k + 2 ^ k := by rw [Nat.pow_succ]; omega
    rw [mNk_s]
    split
    · exact Nat.or_lt_two_pow (by omega) (by have := Nat.pow_pos (n := k) (show 0 < 2 by omega); omega)
    · omega
theorem xNk_le (P : Nat → Bool) (o : Nat) : ∀ k, xNk P o k ≤ o := by
  intro k
  induction k with
  | zero => exact Nat.le_refl _
  | succ k ih =>
    rw [xNk_s]
    split
    · exact ih
    · exact Nat.le_trans Nat.and_le_left ih
theorem p2_8 {k : Nat} (h : k ≤ 8) : 2 ^ k ≤ 256 := Nat.pow_le_pow_right (n := 2) (by omega) h
/-- both ways of saying which errands can be done -/
theorem xm_Nk (P : Nat → Bool) {o n : Nat} (hn : n ≤ 8) (ho : o < 2 ^ n) : xNk P o n = mNk P o n := by
  have h8 := p2_8 hn
  refine Nat.eq_of_testBit_eq (fun i => ?_)
  by_cases hi : i < 8
  · rw [xNk_b P o hi, mNk_b]
    by_cases g : i < n
    · have g2 : ¬ n ≤ i := by omega
      simp [g, g2]
    · have : o.testBit i = false := Nat.testBit_lt_two_pow (Nat.lt_of_lt_of_le ho (Nat.pow_le_pow_right (by omega) (by omega)))
      simp [g, this]
  · have h1 : 256 ≤ 2 ^ i := by
      have := Nat.pow_le_pow_right (n := 2) (show 2 > 0 by omega) (show 8 ≤ i by omega)
      omega
    rw [Nat.testBit_lt_two_pow (Nat.lt_of_le_of_lt (xNk_le P o n) (by omega)), Nat.testBit_lt_two_pow (Nat.lt_of_lt_of_le (mNk_lt P o n) (by omega))]
/-- set lies in c -/
theorem sub_bits {s c : Nat} (hs : s < 256) (hc : c < 256) (h : zn s &&& (zn c ^^^ (-1)) = 0) {e : Nat} (he : e < 8) (hb : hsb s e = true) : hsb c e = true := by
  rw [m1_zn, zn_xor, zn_and] at h
  have hl : s &&& (c ^^^ 4294967295) ≤ s := Nat.and_le_left
  have h0 : s &&& (c ^^^ 4294967295) = 0 := zn_inj (by omega) (by omega) h
  rw [hsb_bit s hs e he] at hb
  rw [hsb_bit c hc e he]
  have := congrArg (fun x => Nat.testBit x e) h0
  simp only [Nat.testBit_and, Nat.testBit_xor, ones_bit e he, hb, Nat.zero_testBit, Bool.true_and] at this
  cases hq : c.testBit e with
  | true => rfl
  | false => rw [hq] at this; exact absurd this (by decide)
theorem zs_int {x y : Nat} (hx : x < 1000000) (hy : y < 1000000) : (zn x - zn y).toInt = (x : Int) - (y : Int) := by
  rw [Int32.toInt_sub, zn_int (by omega), zn_int (by omega)]
  exact Int.bmod_eq_of_le (by omega) (by omega)
theorem zs_pos {x y : Nat} (hx : x < 1000000) (hy : y < 1000000) : (0 < zn x - zn y) = (y < x) := by
  rw [Int32.lt_iff_toInt_lt, zs_int hx hy, show ((0 : Int32).toInt) = 0 from by decide]
  apply propext
  omega
theorem zs_zero {x y : Nat} (hx : x < 1000000) (hy : y < 1000000) : (zn x - zn y = 0) = (x = y) := by
  rw [← Int32.toInt_inj, zs_int hx hy, show ((0 : Int32).toInt) = 0 from by decide]
  apply propext
  omega
