set_option maxRecDepth 100000
/-! TRIPS: bits -/
def bN (P : Nat → Bool) (n : Nat) : Nat := itr (fun e s => s ||| (if P e = true then 2 ^ e else 0)) n 0
theorem bN_tb (P : Nat → Bool) : ∀ n i, (bN P n).testBit i = (decide (i < n) && P i) := by
  intro n
  induction n with
  | zero =>
    intro i
    show Nat.testBit 0 i = _
    simp
  | succ n ih =>
    intro i
    show (bN P n ||| (if P n = true then 2 ^ n else 0)).testBit i = _
    rw [Nat.testBit_or, ih]
    by_cases h : P n = true
    · rw [if_pos h, Nat.testBit_two_pow]
      by_cases e : i = n
      · subst e
        simp [h]
      · have h1 : decide (n = i) = false := decide_eq_false (fun q => e q.symm)
        have h2 : decide (i < n + 1) = decide (i < n) := decide_eq_decide.mpr (by omega)
        rw [h1, h2, Bool.or_false]
    · rw [if_neg h]
      by_cases e : i = n
      · subst e
        simp [h]
      · have h2 : decide (i < n + 1) = decide (i < n) := decide_eq_decide.mpr (by omega)
        rw [h2, Nat.zero_testBit, Bool.or_false]
theorem bN_lt (P : Nat → Bool) (n : Nat) : bN P n < 2 ^ n := by
  refine Nat.lt_pow_two_of_testBit _ (fun i hi => ?_)
  rw [bN_tb, decide_eq_false (by omega)]
  rfl
theorem bN_z {n : Nat} (hn : n ≤ 8) (P : Nat → Bool) (g : Nat → Int32 → Int32) (hg : ∀ e, e < n → ∀ s, g e s = s ||| (if P e = true then (1 : Int32) <<< (zn e &&& 31) else 0)) : itr g n 0 = zn (bN P n) := by
  have h : ∀ k, k ≤ n → itr g k 0 = zn (bN P k) := by
    intro k
    induction k with
    | zero => intro _; rfl
    | succ k ih =>
      intro hk
      show g k (itr g k 0) = zn (bN P k ||| (if P k = true then 2 ^ k else 0))
      rw [ih (by omega), hg k (by omega)]
      by_cases e : P k = true
      · rw [if_pos e, if_pos e, bit_zn k (by omega), zn_or]
      · rw [if_neg e, if_neg e]
        show zn (bN P k) ||| zn 0 = _
        rw [zn_or]
  exact h n (Nat.le_refl n)
/-- errands of one at a station that a word does; what is still to do -/
def PB (C : SV) (t s w e : Nat) : Bool := decide (zn (C.who e) = zn t) && (decide (zn (C.wh e) = zn s) && decide (mns C w (zn (C.em e))))
def BB (C : SV) (t s w : Nat) : Nat := bN (PB C t s w) C.ne
def OO (C : SV) (d t : Nat) : Nat := bN (fun e => decide (zn (C.who e) = zn t) && !d.testBit e) C.ne
theorem p2_256 {n : Nat} (h : n ≤ 8) : 2 ^ n ≤ 256 := by
  have := Nat.pow_le_pow_right (n := 2) (by omega) h
  exact this
section
variable {C : SV} {t s w d T : Nat}
theorem hs_bit (hT : T < 256) {e : Nat} (he : e < 8) : (((zn T >>> (zn e &&& 31)) &&& 1) = 1) = (T.testBit e = true) := by
  have h := hsb_bit T hT e he
  unfold hsb at h
  rw [← h, decide_eq_true_eq]
theorem dob_bN (hC : OKC C) (hT : T < 256) : dob C (zn T) (zn t) (zn s) w = zn (bN (fun e => PB C t s w e && !T.testBit e) C.ne) := by
  unfold dob
  refine bN_z hC.ne8 _ _ (fun e he s' => ?_)
  have h8 := hC.ne8
  have hb := iff_of_eq (hs_bit hT (show e < 8 by omega))
  congr 1
  unfold PB
  by_cases c1 : zn (C.who e) = zn t <;> by_cases c2 : zn (C.wh e) = zn s <;> by_cases c3 : ((zn T >>> (zn e &&& 31)) &&& 1) = 1 <;> by_cases c4 : mns C w (zn (C.em e)) <;> first | (have hb3 := hb.mp c3; simp [c1, c2, c3, c4, hb3]) | (have hb3 : T.testBit e = false := Bool.eq_false_iff.mpr (fun q => c3 (hb.mpr q)); simp [c1, c2, c3, c4, hb3])
theorem opn_bN (hC : OKC C) (hd : d < 256) : opn C (zn d) (zn t) = zn (OO C d t) := by
  unfold opn OO
  refine bN_z hC.ne8 _ _ (fun e he s' => ?_)
  have h8 := hC.ne8
  have hb := iff_of_eq (hs_bit hd (show e < 8 by omega))
  congr 1
  by_cases c1 : zn (C.who e) = zn t <;> by_cases c3 : ((zn d >>> (zn e &&& 31)) &&& 1) = 1 <;> first | (have hb3 := hb.mp c3; simp [c1, c3, hb3]) | (have hb3 : d.testBit e = false := Bool.eq_false_iff.mpr (fun q => c3 (hb.mpr q)); simp [c1, c3, hb3])
theorem BB_lt (C : SV) (t s w : Nat) : BB C t s w < 2 ^ C.ne := bN_lt _ _
theorem OO_lt (C : SV) (d t : Nat) : OO C d t < 2 ^ C.ne := bN_lt _ _
theorem or_BB (T : Nat) : T ||| bN (fun e => PB C t s w e && !T.testBit e) C.ne = T ||| BB C t s w := by
  refine Nat.eq_of_testBit_eq fun i => ?_
  rw [Nat.testBit_or, Nat.testBit_or, bN_tb]
  unfold BB
  rw [bN_tb]
  cases h1 : T.testBit i
  · simp
  · simp
theorem z_BB (T : Nat) : bN (fun e => PB C t s w e && !T.testBit e) C.ne = 0 ↔ T ||| BB C t s w = T := by
  rw [← or_BB]
  constructor
  · intro h
    rw [h, Nat.or_zero]
  · intro h
    refine Nat.eq_of_testBit_eq fun i => ?_
    have h2 := congrArg (fun x => x.testBit i) h
    simp only [Nat.testBit_or, bN_tb] at h2
    rw [bN_tb, Nat.zero_testBit]
    cases h1 : T.testBit i
    · rw [h1] at h2
      simpa using h2
    · simp
theorem OO_hU (hC : OKC C) (d t i : Nat) : (255 - OO C d t).testBit i = (decide (i < 8) && !(OO C d t).testBit i) := by
  have h1 := OO_lt C d t
  have h2 := p2_256 hC.ne8
  have h3 : OO C d t < 2 ^ 8 := by omega
  rw [show 255 - OO C d t = 2 ^ 8 - (OO C d t + 1) by omega, Nat.testBit_two_pow_sub_succ h3]
theorem tb_lt8 {x i : Nat} (hx : x < 256) (h : x.testBit i = true) : i < 8 := by
  refine Classical.byContradiction fun q => ?_
  have h1 : (2 : Nat) ^ 8 ≤ 2 ^ i := Nat.pow_le_pow_right (by omega) (by omega)
  rw [Nat.testBit_lt_two_pow (by omega)] at h
  cases h
theorem OO_hO (hC : OKC C) (d t i : Nat) (h : (OO C d t).testBit i = true) : i < 8 := by
  have h1 := OO_lt C d t
  have h2 := p2_256 hC.ne8
  exact tb_lt8 (by omega) h
theorem OO_hd (hd : d < 256) (i : Nat) (h : d.testBit i = true) : (OO C d t).testBit i = false ∧ i < 8 := by
  refine ⟨?_, tb_lt8 hd h⟩
  unfold OO
  rw [bN_tb, h]
  simp
theorem BB_hB (hC : OKC C) (s w i : Nat) (h : (BB C t s w).testBit i = true) : i < 8 ∧ (d.testBit i = true ∨ (OO C d t).testBit i = true) := by
  have h8 := hC.ne8
  unfold BB at h
  rw [bN_tb] at h
  have h2 : i < C.ne ∧ PB C t s w i = true := by simpa using h
  refine ⟨by omega, ?_⟩
  unfold OO
  rw [bN_tb]
  have h3 : zn (C.who i) = zn t := by
    have := h2.2
    unfold PB at this
    simp at this
    exact this.1
  cases hd : d.testBit i
  · exact Or.inr (by simp [h2.1, h3])
  · exact Or.inl rfl
theorem z255 : ∀ o, o < 256 → (255 : Int32) &&& (zn o ^^^ (-1)) = zn (255 - o) := by decide +kernel
theorem or_lt8 {a b n : Nat} (ha : a < 2 ^ n) (hb : b < 2 ^ n) : a ||| b < 2 ^ n := Nat.or_lt_two_pow ha hb
/-- plans of one -/
abbrev vT (C : SV) (A : Nat → Int32) (h s w : Nat) : Nat := tN C (zn s) (A 12 + zn h) w
def vwT (C : SV) (A : Nat → Int32) (h s w : Nat) : Nat := if w < C.nw then vT C A h s w else 0
abbrev PX (C : SV) (A : Nat → Int32) (t s0 T0 : Nat) : Nat → Nat → Nat → Nat → Prop := PT C.ns C.nw (BB C t) (vwT C A) s0 T0
abbrev AX (C : SV) (A : Nat → Int32) (t s0 T0 : Nat) : Nat → Nat → Nat → Nat → Prop := AR C.ns C.nw (BB C t) (vwT C A) s0 T0
theorem vw_e (hC : OKC C) (A : Nat → Int32) (h s : Nat) (hw : w < C.nw) : tol C w (zn s) (A 12 + zn h) = zn (vwT C A h s w) ∧ vwT C A h s w ≤ 594 := by
  have := tN_e hC hw (zn s) (A 12 + zn h)
  unfold vwT
  rw [if_pos hw]
  exact this
theorem vw_le (hC : OKC C) (A : Nat → Int32) (h s w : Nat) (hw : w < C.nw) : vwT C A h s w ≤ 594 := (vw_e hC A h s hw).2
theorem PX.ok (hC : OKC C) {A : Nat → Int32} {s0 T0 : Nat} (hs : s0 < C.ns) {N : Nat} (hN : C.ne ≤ N) (hT : T0 < 2 ^ N) {h s T c : Nat} (p : PX C A t s0 T0 h s T c) : s < C.ns ∧ T < 2 ^ N ∧ c ≤ 594 * T :=
  PT.ok hs hT (fun s w _ _ => Nat.lt_of_lt_of_le (BB_lt C t s w) (Nat.pow_le_pow_right (by omega) hN)) (fun h s w hw => vw_le hC A h s w hw) p
end
