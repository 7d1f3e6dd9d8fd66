/-! THE FIXED OBJECTS: kinds and lengths of the cells from id 20 on, and the final references among them (printed by gen/sh.py out of the constructors) -/
def shL : List (Nat × Nat) := [(0, 0), (1, 0), (20, 4), (20, 4), (20, 4), (20, 30), (1, 0), (20, 4), (20, 4), (20, 4), (20, 30), (20, 60), (20, 10), (20, 10), (20, 10), (20, 8), (20, 8), (20, 8), (20, 8), (20, 80), (20, 60), (20, 10), (20, 10), (20, 10), (20, 4), (20, 4), (20, 8), (20, 8), (20, 8), (20, 8), (20, 5), (24, 12), (1, 0), (20, 4), (20, 4), (20, 4), (20, 30), (20, 40), (20, 40), (20, 13), (20, 14), (20, 6), (20, 6), (20, 49), (20, 100), (20, 19968), (20, 5), (20, 4), (20, 4), (24, 2), (20, 2), (23, 16), (2, 0), (20, 44), (21, 60), (20, 10), (20, 20), (20, 32), (21, 80), (23, 20), (21, 60), (20, 10), (20, 40), (21, 40), (21, 40), (20, 7), (20, 5), (20, 528), (20, 44), (20, 240), (20, 13), (20, 6), (20, 6), (20, 49), (20, 1536), (20, 1536), (20, 10), (20, 5), (20, 4), (20, 4), (20, 44), (20, 88), (22, 2), (20, 2), (23, 1)]
def shR : List (Nat × Nat × Nat) := [(21, 0, 22), (21, 1, 23), (21, 2, 24), (21, 3, 25), (20, 0, 21), (26, 0, 27), (26, 1, 28), (26, 2, 29), (26, 3, 30), (20, 1, 26), (20, 2, 31), (20, 3, 32), (20, 4, 33), (20, 5, 34), (20, 6, 35), (20, 7, 36), (20, 8, 37), (20, 9, 38), (20, 15, 39), (20, 20, 40), (20, 21, 41), (20, 22, 42), (20, 23, 43), (20, 25, 44), (20, 26, 45), (20, 27, 46), (20, 28, 47), (20, 29, 48), (20, 30, 49), (20, 40, 50), (20, 41, 51), (52, 0, 53), (52, 1, 54), (52, 2, 55), (52, 3, 56), (20, 42, 52), (20, 45, 57), (20, 46, 58), (20, 49, 59), (20, 50, 60), (20, 52, 61), (20, 53, 62), (20, 54, 63), (20, 55, 64), (20, 56, 65), (20, 58, 66), (20, 59, 67), (20, 60, 68), (20, 64, 69), (20, 65, 70), (20, 66, 71), (72, 0, 73), (72, 3, 74), (72, 4, 75), (72, 5, 76), (72, 8, 77), (72, 9, 78), (72, 11, 79), (72, 19, 80), (72, 20, 81), (72, 21, 82), (72, 26, 85), (72, 27, 86), (72, 28, 87), (72, 30, 88), (72, 32, 89), (72, 34, 90), (72, 35, 91), (72, 36, 92), (72, 37, 93), (72, 38, 94), (72, 39, 95), (72, 44, 96), (72, 45, 97), (72, 46, 98), (72, 47, 99), (72, 51, 100), (72, 53, 101), (72, 54, 102), (72, 55, 103)]
def Sh (M : PM) : Prop := 105 ≤ M.n ∧ (∀ (j : Nat) (q : Nat × Nat), shL[j]? = some q → M.k (20 + j) = q) ∧ ∀ q ∈ shR, M.r q.1 q.2.1 = some q.2.2
theorem sh_k {M : PM} (h : Sh M) (j : Nat) {q : Nat × Nat} (e : shL[j]? = some q) : M.k (20 + j) = q := h.2.1 j q e
theorem sh_k1 {M : PM} (h : Sh M) (j : Nat) {c n : Nat} (e : shL[j]? = some (c, n)) : (M.k (20 + j)).1 = c := by rw [h.2.1 j _ e]
theorem sh_a {M : PM} (h : Sh M) (j : Nat) {c n : Nat} {i : Int32} (e : shL[j]? = some (c, n)) (hi : vp_in i n) : (M.k (20 + j)).1 = c ∧ vp_in i (M.k (20 + j)).2 := by rw [h.2.1 j _ e]; exact ⟨rfl, hi⟩
theorem sh_r {M : PM} (h : Sh M) (i : Nat) {a k b : Nat} (e : shR[i]? = some (a, k, b)) : M.r a k = some b := h.2.2 (a, k, b) (List.mem_of_getElem? e)
theorem shL_len : shL.length = 85 := rfl
theorem sh_lt {j : Nat} {q : Nat × Nat} (e : shL[j]? = some q) : 20 + j < 105 := by
  have := (List.getElem?_eq_some_iff.mp e).1
  rw [shL_len] at this
  omega
theorem shR_lt : ∀ q ∈ shR, q.1 < 105 := by decide
theorem Sh_si {M : PM} {o j : Nat} {v : Int32} (h : Sh M) : Sh (M.si o j v) := h
theorem Sh_sl {M : PM} {o j : Nat} {v : Int64} (h : Sh M) : Sh (M.sl o j v) := h
theorem Sh_ci {M : PM} {a sp b dp n : Nat} (h : Sh M) : Sh (M.ci a sp b dp n) := h
theorem Sh_sr {M : PM} {o j : Nat} {v : Option Nat} (h : Sh M) (hc : (shR.all fun q => !(q.1 == o && q.2.1 == j)) = true) : Sh (M.sr o j v) := by
  refine ⟨h.1, h.2.1, fun q hq => ?_⟩
  have h1 := List.all_eq_true.mp hc q hq
  rw [sr_r, if_neg]
  · exact h.2.2 q hq
  · rintro ⟨e1, e2⟩
    simp [e1, e2] at h1
theorem Sh_srA {M : PM} {o j : Nat} {v : Option Nat} (h : Sh M) (hc : (shR.all fun q => !(q.1 == o)) = true) : Sh (M.sr o j v) := by
  refine ⟨h.1, h.2.1, fun q hq => ?_⟩
  have h1 := List.all_eq_true.mp hc q hq
  rw [sr_r, if_neg]
  · exact h.2.2 q hq
  · rintro ⟨e1, e2⟩
    simp [e1] at h1
theorem Sh_srN {M : PM} {o j : Nat} {v : Option Nat} (h : Sh M) (hN : 105 ≤ o) : Sh (M.sr o j v) := by
  refine ⟨h.1, h.2.1, fun q hq => ?_⟩
  rw [sr_r, if_neg]
  · exact h.2.2 q hq
  · rintro ⟨e1, -⟩
    have := shR_lt q hq
    omega
theorem Sh_nw {M : PM} {c n w : Nat} (h : Sh M) : Sh (M.nw c n w) := by
  refine ⟨Nat.le_trans h.1 (Nat.le_succ _), fun j q e => ?_, fun q hq => ?_⟩
  · have h1 := sh_lt e
    have h2 := h.1
    rw [nw_k, if_neg (by omega)]
    exact h.2.1 j q e
  · have h1 := shR_lt q hq
    have h2 := h.1
    rw [nw_r, if_neg (by omega)]
    exact h.2.2 q hq
def Tt (_ : PM) : Prop := True
theorem Tt_si {M : PM} {o j : Nat} {v : Int32} (_ : Tt M) : Tt (M.si o j v) := trivial
theorem Tt_sl {M : PM} {o j : Nat} {v : Int64} (_ : Tt M) : Tt (M.sl o j v) := trivial
theorem Tt_sr {M : PM} {o j : Nat} {v : Option Nat} (_ : Tt M) {q : Prop} (_ : q) : Tt (M.sr o j v) := trivial
theorem Tt_nw {M : PM} {c n w : Nat} (_ : Tt M) : Tt (M.nw c n w) := trivial
theorem kill2_rf (r : Option Nat) : kill2 (some (va_rf r)) = some (va_rf r) := by cases r <;> rfl
/-- how often a loop may run -/
def FU : Nat := 30000
theorem nz {v : Int32} (h : v = 0 ∨ v = 1) : narrow .boolean (.int v) = .int v := by rcases h with h | h <;> (rw [h]; rfl)
theorem i32_of {x c : Int32} (h : x.toInt = c.toInt) : x = c := Int32.toInt_inj.mp h
theorem df_X1 : ∀ k, k < 68 → fTy 0 k = .int ∨ fTy 0 k = .boolean ∨ fTy 0 k = .char ∨ (∃ n, fTy 0 k = .object n) ∨ ∃ t, fTy 0 k = .array t := by
  intro k hk
  match k, hk with
  | 0, _ => exact Or.inr (Or.inr (Or.inr (Or.inl ⟨_, rfl⟩)))
  | 1, _ => exact Or.inr (Or.inr (Or.inr (Or.inl ⟨_, rfl⟩)))
  | 2, _ => exact Or.inr (Or.inr (Or.inr (Or.inr ⟨_, rfl⟩)))
  | 3, _ => exact Or.inr (Or.inr (Or.inr (Or.inr ⟨_, rfl⟩)))
  | 4, _ => exact Or.inr (Or.inr (Or.inr (Or.inr ⟨_, rfl⟩)))
  | 5, _ => exact Or.inr (Or.inr (Or.inr (Or.inr ⟨_, rfl⟩)))
  | 6, _ => exact Or.inr (Or.inr (Or.inr (Or.inr ⟨_, rfl⟩)))
  | 7, _ => exact Or.inr (Or.inr (Or.inr (Or.inr ⟨_, rfl⟩)))
  | 8, _ => exact Or.inr (Or.inr (Or.inr (Or.inr ⟨_, rfl⟩)))
  | 9, _ => exact Or.inr (Or.inr (Or.inr (Or.inr ⟨_, rfl⟩)))
  | 10, _ => exact Or.inl rfl
  | 11, _ => exact Or.inl rfl
  | 12, _ => exact Or.inl rfl
  | 13, _ => exact Or.inl rfl
  | 14, _ => exact Or.inl rfl
  | 15, _ => exact Or.inr (Or.inr (Or.inr (Or.inr ⟨_, rfl⟩)))
  | 16, _ => exact Or.inl rfl
  | 17, _ => exact Or.inl rfl
  | 18, _ => exact Or.inl rfl
  | 19, _ => exact Or.inl rfl
  | 20, _ => exact Or.inr (Or.inr (Or.inr (Or.inr ⟨_, rfl⟩)))
  | 21, _ => exact Or.inr (Or.inr (Or.inr (Or.inr ⟨_, rfl⟩)))
  | 22, _ => exact Or.inr (Or.inr (Or.inr (Or.inr ⟨_, rfl⟩)))
  | 23, _ => exact Or.inr (Or.inr (Or.inr (Or.inr ⟨_, rfl⟩)))
  | 24, _ => exact Or.inl rfl
  | 25, _ => exact Or.inr (Or.inr (Or.inr (Or.inr ⟨_, rfl⟩)))
  | 26, _ => exact Or.inr (Or.inr (Or.inr (Or.inr ⟨_, rfl⟩)))
  | 27, _ => exact Or.inr (Or.inr (Or.inr (Or.inr ⟨_, rfl⟩)))
  | 28, _ => exact Or.inr (Or.inr (Or.inr (Or.inr ⟨_, rfl⟩)))
  | 29, _ => exact Or.inr (Or.inr (Or.inr (Or.inr ⟨_, rfl⟩)))
  | 30, _ => exact Or.inr (Or.inr (Or.inr (Or.inr ⟨_, rfl⟩)))
  | 31, _ => exact Or.inl rfl
  | 32, _ => exact Or.inl rfl
  | 33, _ => exact Or.inl rfl
  | 34, _ => exact Or.inl rfl
  | 35, _ => exact Or.inl rfl
  | 36, _ => exact Or.inl rfl
  | 37, _ => exact Or.inl rfl
  | 38, _ => exact Or.inr (Or.inr (Or.inr (Or.inl ⟨_, rfl⟩)))
  | 39, _ => exact Or.inr (Or.inr (Or.inr (Or.inl ⟨_, rfl⟩)))
  | 40, _ => exact Or.inr (Or.inr (Or.inr (Or.inr ⟨_, rfl⟩)))
  | 41, _ => exact Or.inr (Or.inr (Or.inr (Or.inr ⟨_, rfl⟩)))
  | 42, _ => exact Or.inr (Or.inr (Or.inr (Or.inl ⟨_, rfl⟩)))
  | 43, _ => exact Or.inl rfl
  | 44, _ => exact Or.inl rfl
  | 45, _ => exact Or.inr (Or.inr (Or.inr (Or.inr ⟨_, rfl⟩)))
  | 46, _ => exact Or.inr (Or.inr (Or.inr (Or.inr ⟨_, rfl⟩)))
  | 47, _ => exact Or.inl rfl
  | 48, _ => exact Or.inl rfl
  | 49, _ => exact Or.inr (Or.inr (Or.inr (Or.inr ⟨_, rfl⟩)))
  | 50, _ => exact Or.inr (Or.inr (Or.inr (Or.inr ⟨_, rfl⟩)))
  | 51, _ => exact Or.inl rfl
  | 52, _ => exact Or.inr (Or.inr (Or.inr (Or.inr ⟨_, rfl⟩)))
  | 53, _ => exact Or.inr (Or.inr (Or.inr (Or.inr ⟨_, rfl⟩)))
  | 54, _ => exact Or.inr (Or.inr (Or.inr (Or.inr ⟨_, rfl⟩)))
  | 55, _ => exact Or.inr (Or.inr (Or.inr (Or.inr ⟨_, rfl⟩)))
  | 56, _ => exact Or.inr (Or.inr (Or.inr (Or.inr ⟨_, rfl⟩)))
  | 57, _ => exact Or.inl rfl
  | 58, _ => exact Or.inr (Or.inr (Or.inr (Or.inr ⟨_, rfl⟩)))
  | 59, _ => exact Or.inr (Or.inr (Or.inr (Or.inr ⟨_, rfl⟩)))
  | 60, _ => exact Or.inr (Or.inr (Or.inr (Or.inr ⟨_, rfl⟩)))
  | 61, _ => exact Or.inl rfl
  | 62, _ => exact Or.inl rfl
  | 63, _ => exact Or.inl rfl
  | 64, _ => exact Or.inr (Or.inr (Or.inr (Or.inr ⟨_, rfl⟩)))
  | 65, _ => exact Or.inr (Or.inr (Or.inr (Or.inr ⟨_, rfl⟩)))
  | 66, _ => exact Or.inr (Or.inr (Or.inr (Or.inr ⟨_, rfl⟩)))
  | 67, _ => exact Or.inl rfl
  | k + 68, h => exact absurd h (by omega)
theorem df_X2 : ∀ k, k < 6 → fTy 1 k = .int ∨ fTy 1 k = .boolean ∨ fTy 1 k = .char ∨ (∃ n, fTy 1 k = .object n) ∨ ∃ t, fTy 1 k = .array t := by
  intro k hk
  match k, hk with
  | 0, _ => exact Or.inr (Or.inr (Or.inr (Or.inr ⟨_, rfl⟩)))
  | 1, _ => exact Or.inr (Or.inr (Or.inr (Or.inr ⟨_, rfl⟩)))
  | 2, _ => exact Or.inr (Or.inr (Or.inr (Or.inr ⟨_, rfl⟩)))
  | 3, _ => exact Or.inr (Or.inr (Or.inr (Or.inr ⟨_, rfl⟩)))
  | 4, _ => exact Or.inl rfl
  | 5, _ => exact Or.inl rfl
  | k + 6, h => exact absurd h (by omega)
theorem df_X5 : ∀ k, k < 3 → fTy 3 k = .int ∨ fTy 3 k = .boolean ∨ fTy 3 k = .char ∨ (∃ n, fTy 3 k = .object n) ∨ ∃ t, fTy 3 k = .array t := by
  intro k hk
  match k, hk with
  | 0, _ => exact Or.inr (Or.inr (Or.inr (Or.inl ⟨_, rfl⟩)))
  | 1, _ => exact Or.inr (Or.inr (Or.inr (Or.inl ⟨_, rfl⟩)))
  | 2, _ => exact Or.inr (Or.inr (Or.inr (Or.inl ⟨_, rfl⟩)))
  | k + 3, h => exact absurd h (by omega)
theorem df_X6 : ∀ k, k < 3 → fTy 4 k = .int ∨ fTy 4 k = .boolean ∨ fTy 4 k = .char ∨ (∃ n, fTy 4 k = .object n) ∨ ∃ t, fTy 4 k = .array t := by
  intro k hk
  match k, hk with
  | 0, _ => exact Or.inr (Or.inr (Or.inr (Or.inl ⟨_, rfl⟩)))
  | 1, _ => exact Or.inl rfl
  | 2, _ => exact Or.inr (Or.inr (Or.inr (Or.inl ⟨_, rfl⟩)))
  | k + 3, h => exact absurd h (by omega)
theorem df_X7 : ∀ k, k < 3 → fTy 5 k = .int ∨ fTy 5 k = .boolean ∨ fTy 5 k = .char ∨ (∃ n, fTy 5 k = .object n) ∨ ∃ t, fTy 5 k = .array t := by
  intro k hk
  match k, hk with
  | 0, _ => exact Or.inr (Or.inr (Or.inr (Or.inl ⟨_, rfl⟩)))
  | 1, _ => exact Or.inl rfl
  | 2, _ => exact Or.inr (Or.inr (Or.inr (Or.inl ⟨_, rfl⟩)))
  | k + 3, h => exact absurd h (by omega)
theorem df_X8 : ∀ k, k < 5 → fTy 6 k = .int ∨ fTy 6 k = .boolean ∨ fTy 6 k = .char ∨ (∃ n, fTy 6 k = .object n) ∨ ∃ t, fTy 6 k = .array t := by
  intro k hk
  match k, hk with
  | 0, _ => exact Or.inr (Or.inr (Or.inr (Or.inl ⟨_, rfl⟩)))
  | 1, _ => exact Or.inr (Or.inr (Or.inl rfl))
  | 2, _ => exact Or.inr (Or.inr (Or.inr (Or.inl ⟨_, rfl⟩)))
  | 3, _ => exact Or.inr (Or.inr (Or.inr (Or.inl ⟨_, rfl⟩)))
  | 4, _ => exact Or.inr (Or.inr (Or.inr (Or.inl ⟨_, rfl⟩)))
  | k + 5, h => exact absurd h (by omega)
theorem df_X3 : ∀ k, k < 56 → fTy 2 k = .int ∨ fTy 2 k = .boolean ∨ fTy 2 k = .char ∨ (∃ n, fTy 2 k = .object n) ∨ ∃ t, fTy 2 k = .array t := by
  intro k hk
  match k, hk with
  | 0, _ => exact Or.inr (Or.inr (Or.inr (Or.inr ⟨_, rfl⟩)))
  | 1, _ => exact Or.inl rfl
  | 2, _ => exact Or.inl rfl
  | 3, _ => exact Or.inr (Or.inr (Or.inr (Or.inr ⟨_, rfl⟩)))
  | 4, _ => exact Or.inr (Or.inr (Or.inr (Or.inr ⟨_, rfl⟩)))
  | 5, _ => exact Or.inr (Or.inr (Or.inr (Or.inr ⟨_, rfl⟩)))
  | 6, _ => exact Or.inl rfl
  | 7, _ => exact Or.inl rfl
  | 8, _ => exact Or.inr (Or.inr (Or.inr (Or.inr ⟨_, rfl⟩)))
  | 9, _ => exact Or.inr (Or.inr (Or.inr (Or.inr ⟨_, rfl⟩)))
  | 10, _ => exact Or.inl rfl
  | 11, _ => exact Or.inr (Or.inr (Or.inr (Or.inr ⟨_, rfl⟩)))
  | 12, _ => exact Or.inl rfl
  | 13, _ => exact Or.inl rfl
  | 14, _ => exact Or.inr (Or.inr (Or.inr (Or.inr ⟨_, rfl⟩)))
  | 15, _ => exact Or.inl rfl
  | 16, _ => exact Or.inl rfl
  | 17, _ => exact Or.inl rfl
  | 18, _ => exact Or.inl rfl
  | 19, _ => exact Or.inr (Or.inr (Or.inr (Or.inr ⟨_, rfl⟩)))
  | 20, _ => exact Or.inr (Or.inr (Or.inr (Or.inr ⟨_, rfl⟩)))
  | 21, _ => exact Or.inr (Or.inr (Or.inr (Or.inr ⟨_, rfl⟩)))
  | 22, _ => exact Or.inr (Or.inr (Or.inr (Or.inr ⟨_, rfl⟩)))
  | 23, _ => exact Or.inr (Or.inr (Or.inr (Or.inr ⟨_, rfl⟩)))
  | 24, _ => exact Or.inl rfl
  | 25, _ => exact Or.inr (Or.inl rfl)
  | 26, _ => exact Or.inr (Or.inr (Or.inr (Or.inr ⟨_, rfl⟩)))
  | 27, _ => exact Or.inr (Or.inr (Or.inr (Or.inr ⟨_, rfl⟩)))
  | 28, _ => exact Or.inr (Or.inr (Or.inr (Or.inr ⟨_, rfl⟩)))
  | 29, _ => exact Or.inl rfl
  | 30, _ => exact Or.inr (Or.inr (Or.inr (Or.inr ⟨_, rfl⟩)))
  | 31, _ => exact Or.inl rfl
  | 32, _ => exact Or.inr (Or.inr (Or.inr (Or.inr ⟨_, rfl⟩)))
  | 33, _ => exact Or.inl rfl
  | 34, _ => exact Or.inr (Or.inr (Or.inr (Or.inr ⟨_, rfl⟩)))
  | 35, _ => exact Or.inr (Or.inr (Or.inr (Or.inr ⟨_, rfl⟩)))
  | 36, _ => exact Or.inr (Or.inr (Or.inr (Or.inr ⟨_, rfl⟩)))
  | 37, _ => exact Or.inr (Or.inr (Or.inr (Or.inr ⟨_, rfl⟩)))
  | 38, _ => exact Or.inr (Or.inr (Or.inr (Or.inr ⟨_, rfl⟩)))
  | 39, _ => exact Or.inr (Or.inr (Or.inr (Or.inr ⟨_, rfl⟩)))
  | 40, _ => exact Or.inl rfl
  | 41, _ => exact Or.inl rfl
  | 42, _ => exact Or.inl rfl
  | 43, _ => exact Or.inl rfl
  | 44, _ => exact Or.inr (Or.inr (Or.inr (Or.inr ⟨_, rfl⟩)))
  | 45, _ => exact Or.inr (Or.inr (Or.inr (Or.inr ⟨_, rfl⟩)))
  | 46, _ => exact Or.inr (Or.inr (Or.inr (Or.inr ⟨_, rfl⟩)))
  | 47, _ => exact Or.inr (Or.inr (Or.inr (Or.inr ⟨_, rfl⟩)))
  | 48, _ => exact Or.inl rfl
  | 49, _ => exact Or.inl rfl
  | 50, _ => exact Or.inl rfl
  | 51, _ => exact Or.inr (Or.inr (Or.inr (Or.inr ⟨_, rfl⟩)))
  | 52, _ => exact Or.inl rfl
  | 53, _ => exact Or.inr (Or.inr (Or.inr (Or.inr ⟨_, rfl⟩)))
  | 54, _ => exact Or.inr (Or.inr (Or.inr (Or.inr ⟨_, rfl⟩)))
  | 55, _ => exact Or.inr (Or.inr (Or.inr (Or.inr ⟨_, rfl⟩)))
  | k + 56, h => exact absurd h (by omega)
theorem fnX1 : fapart TX1 68 := fun a ha b hb h => Or.inl (nmX1 a ha b hb h)
theorem fnX2 : fapart TX2 6 := fun a ha b hb h => Or.inl (nmX2 a ha b hb h)
theorem fnX3 : fapart TX3 56 := fun a ha b hb h => Or.inl (nmX3 a ha b hb h)
theorem fnX5 : fapart TX5 3 := by unfold fapart; decide +kernel
theorem fnX6 : fapart TX6 3 := by unfold fapart; decide +kernel
theorem fnX7 : fapart TX7 3 := by unfold fapart; decide +kernel
theorem fnX8 : fapart TX8 5 := by unfold fapart; decide +kernel
theorem nw_d20 {M : PM} {N w : Nat} {ad : Nat → Nat} {j : Nat} : fv (aTy 20) (M.nw 20 N w) ad M.n j = defaultValue (aTy 20) := by
  show Value.int ((M.nw 20 N w).i M.n j) = _
  rw [nw_i, if_pos rfl]
  rfl
theorem nw_d21 {M : PM} {N w : Nat} {ad : Nat → Nat} {j : Nat} : fv (aTy 21) (M.nw 21 N w) ad M.n j = defaultValue (aTy 21) := by
  show Value.int ((M.nw 21 N w).i M.n j) = _
  rw [nw_i, if_pos rfl]
  rfl
theorem nw_d22 {M : PM} {N w : Nat} {ad : Nat → Nat} {j : Nat} : fv (aTy 22) (M.nw 22 N w) ad M.n j = defaultValue (aTy 22) := by
  show Value.int ((M.nw 22 N w).i M.n j) = _
  rw [nw_i, if_pos rfl]
  rfl
theorem nw_d23 {M : PM} {N w : Nat} {ad : Nat → Nat} {j : Nat} : fv (aTy 23) (M.nw 23 N w) ad M.n j = defaultValue (aTy 23) := by
  show Value.long ((M.nw 23 N w).l M.n j) = _
  rw [nw_l, if_pos rfl]
  rfl
section JZ
variable {α : Type} {G : JG} {cc : ByteArray} {y : MethodName} {nL D : Nat} {ret : Option FieldType} {I : PM → Prop} {fin : α → PM → State → Prop} {M : PM} {pc : Nat} {L : List (Option Value)} {S : List Value} {o o1 o2 : Option (α × PM)}
theorem J_ltj {β : Type} {v : β} {f : β → Option (α × PM)} {P : (β → Option (α × PM)) → Prop} (h : P f) (k : ∀ j, P j → JJ G cc y nL D ret I fin M pc L S (j v)) : JJ G cc y nL D ret I fin M pc L S (lt v f) := k f h
theorem J_rfe {r : Option Nat} {f : Nat → Option (α × PM)} (k : ∀ a, r = some a → JJ G cc y nL D ret I fin M pc L S (f a)) : JJ G cc y nL D ret I fin M pc L S (rf r f) := by
  cases r with
  | none => exact J_none
  | some a => exact k a rfl
theorem J_ifnullE {r : Option Nat} {off : Int} (tgt : Nat) {f : Nat → Option (α × PM)} (d : decode cc pc = .ok (.ifnull off, 3)) (ht : (pc : Int) + off = (tgt : Int)) (k1 : r = none → JJ G cc y nL D ret I fin M tgt L S o1) (k2 : ∀ a, r = some a → JJ G cc y nL D ret I fin M (pc + 3) L S (f a)) : JJ G cc y nL D ret I fin M pc L (va_rf r :: S) (nl r o1 f) := by
  cases r with
  | none => exact J_lift (fun p l e R s m args below meth c E M0 _ cx H locs ls k n Q _ _ hl _ _ _ w => lv_ifnullN cx.1 cx.2.1 d ht (w ls hl)) (k1 rfl)
  | some a => exact J_lift (fun p l e R s m args below meth c E M0 _ cx H locs ls k n Q _ _ hl _ _ _ w => lv_ifnull cx.1 cx.2.1 d (w ls hl)) (k2 a rfl)
theorem J_ifnonnullE {r : Option Nat} {off : Int} (tgt : Nat) {f : Nat → Option (α × PM)} (d : decode cc pc = .ok (.ifnonnull off, 3)) (ht : (pc : Int) + off = (tgt : Int)) (k1 : r = none → JJ G cc y nL D ret I fin M (pc + 3) L S o1) (k2 : ∀ a, r = some a → JJ G cc y nL D ret I fin M tgt L S (f a)) : JJ G cc y nL D ret I fin M pc L (va_rf r :: S) (nl r o1 f) := by
  cases r with
  | none => exact J_lift (fun p l e R s m args below meth c E M0 _ cx H locs ls k n Q _ _ hl _ _ _ w => lv_ifnonnullN cx.1 cx.2.1 d (w ls hl)) (k1 rfl)
  | some a => exact J_lift (fun p l e R s m args below meth c E M0 _ cx H locs ls k n Q _ _ hl _ _ _ w => lv_ifnonnull cx.1 cx.2.1 d ht (w ls hl)) (k2 a rfl)
theorem J_ite {c : Prop} [Decidable c] (k1 : c → JJ G cc y nL D ret I fin M pc L S o1) (k2 : ¬ c → JJ G cc y nL D ret I fin M pc L S o2) : JJ G cc y nL D ret I fin M pc L S (if c then o1 else o2) := by
  by_cases h : c
  · rw [if_pos h]; exact k1 h
  · rw [if_neg h]; exact k2 h
theorem J_iincL {i : Nat} {n0 : Int} {x : Int32} {f : Int32 → Option (α × PM)} (n : Int32) (hn0 : Int32.ofInt n0 = n) (d : decode cc pc = .ok (.iinc i n0, 3)) (h : L[i]? = some (some (.int x))) (hi : i < nL) (k : ∀ v, JJ G cc y nL D ret I fin M (pc + 3) (lst1 L i (.int v)) S (f v)) : JJ G cc y nL D ret I fin M pc L S (lt (x + n) f) :=
  J_iinc (x + n) d h (by rw [hn0]) hi (k (x + n))
theorem J_getO {a c index : Nat} {ref C : String} {T : u_T} {N : Nat} {f : Option Nat → Option (α × PM)} (hc : vwCl[c]? = some (C, T, N)) (hin : ∀ w ∈ u_ws C T N, w ∈ lw_all) (k : Nat) (hk : k < N) (hlink : Cond.fieldLink y.cls index ref (T k).2.1 (T k).2.2.1 ∈ lw_all) (hsame : (T k).1 = ref) (ha : I M → (M.k a).1 = c) (hv : I M → ∀ ad, fv (fTy c k) M ad a k = tr ad (va_rf (M.r a k))) (d : decode cc pc = .ok (.getfield index, 3))
    (kk : ∀ r, JJ G cc y nL D ret I fin M (pc + 3) L (va_rf r :: S) (f r)) : JJ G cc y nL D ret I fin M pc L (.ref a :: S) (lt (M.r a k) f) := J_get (va_rf (M.r a k)) hc hin k hk hlink hsame ha hv d (kk _)
theorem J_getNO {a c index : Nat} {ref C host : String} {T : u_T} {N : Nat} {f : Option Nat → Option (α × PM)} (hc : vwCl[c]? = some (C, T, N)) (hin : ∀ w ∈ u_ws C T N, w ∈ lw_all) (k : Nat) (hk : k < N) (hlink : Cond.fieldLinkNest y.cls index ref (T k).2.1 (T k).2.2.1 host ∈ nwF) (hsame : (T k).1 = ref) (ha : I M → (M.k a).1 = c) (hv : I M → ∀ ad, fv (fTy c k) M ad a k = tr ad (va_rf (M.r a k))) (d : decode cc pc = .ok (.getfield index, 3))
    (kk : ∀ r, JJ G cc y nL D ret I fin M (pc + 3) L (va_rf r :: S) (f r)) : JJ G cc y nL D ret I fin M pc L (.ref a :: S) (lt (M.r a k) f) := J_getN (va_rf (M.r a k)) hc hin k hk hlink hsame ha hv d (kk _)
theorem J_aaldO {a : Nat} {i : Int32} {f : Option Nat → Option (α × PM)} (ha : I M → (M.k a).1 = 24 ∧ vp_in i (M.k a).2) (d : decode cc pc = .ok (.aaload, 1)) (kk : ∀ r, JJ G cc y nL D ret I fin M (pc + 1) L (va_rf r :: S) (f r)) : JJ G cc y nL D ret I fin M pc L (.int i :: .ref a :: S) (lt (M.r a (ix i)) f) := J_aald ha d (kk _)
theorem lk_out {ps : List (Int × Int)} {dflt x : Int} (h : ∀ c ∈ ps.map (·.1), ¬ x = c) : Op.lookupswitch.offset ps dflt x = dflt := by
  induction ps with
  | nil => rfl
  | cons q ps ih =>
    have h1 := h q.1 (by simp)
    have h2 := ih (fun c hc => h c (by simp only [List.map_cons, List.mem_cons]; exact Or.inr hc))
    simp only [Op.lookupswitch.offset] at h2 ⊢
    simp [List.find?, h1, Ne.symm h1] at h2 ⊢
    try exact h2
/-- a tableswitch that goes to its default -/
theorem J_tableD {dflt lo hi : Int} {offs : Array Int} {len : Nat} {x : Int32} (tgt : Nat) (d : decode cc pc = .ok (.tableswitch dflt lo hi offs, len)) (ht : (pc : Int) + dflt = (tgt : Int)) (hsz : lo + offs.size = hi + 1) (h0 : 0 ≤ offs.size) (cs : List Int) (hcs : ((List.range offs.size).all fun j => decide (offs[j]? = some dflt) || decide (lo + (j : Int) ∈ cs)) = true) (hx : ∀ c ∈ cs, ¬ x.toInt = c) (k : JJ G cc y nL D ret I fin M tgt L S o) : JJ G cc y nL D ret I fin M pc L (.int x :: S) o := by
  by_cases h : x.toInt < lo ∨ hi < x.toInt
  · exact J_tableOut tgt d h ht k
  · have h1 : ¬ x.toInt < lo := fun q => h (Or.inl q)
    have h2 : ¬ hi < x.toInt := fun q => h (Or.inr q)
    have hj : (x.toInt - lo).toNat < offs.size := by omega
    have h3 := List.all_eq_true.mp hcs (x.toInt - lo).toNat (List.mem_range.mpr hj)
    simp only [Bool.or_eq_true, decide_eq_true_eq] at h3
    rcases h3 with h3 | h3
    · exact J_tableIn tgt d h1 h2 h3 ht k
    · exact absurd (show x.toInt = lo + ((x.toInt - lo).toNat : Int) by omega) (hx _ h3)
end JZ
theorem nmh_X1_init : yX1_init.cls ≠ "java/lang/invoke/MethodHandle" ∧ yX1_init.cls ≠ "java/lang/invoke/VarHandle" ∧ (parseMethodDescriptor yX1_init.desc).map (fun d => d.parameters.length) = some 0 := by decide +kernel
theorem nmh_X1_sign : yX1_sign.cls ≠ "java/lang/invoke/MethodHandle" ∧ yX1_sign.cls ≠ "java/lang/invoke/VarHandle" ∧ (parseMethodDescriptor yX1_sign.desc).map (fun d => d.parameters.length) = some 1 := by decide +kernel
theorem nmv_X1_sign : yX1_sign.cls = "TollOnVowels" ∧ yX1_sign.cls ≠ "java/lang/invoke/MethodHandle" ∧ yX1_sign.cls ≠ "java/lang/invoke/VarHandle" ∧ (parseMethodDescriptor yX1_sign.desc).map (fun d => d.parameters.length) = some 1 := ⟨rfl, nmh_X1_sign⟩
theorem nmh_X1_end : yX1_end.cls ≠ "java/lang/invoke/MethodHandle" ∧ yX1_end.cls ≠ "java/lang/invoke/VarHandle" ∧ (parseMethodDescriptor yX1_end.desc).map (fun d => d.parameters.length) = some 1 := by decide +kernel
theorem nmv_X1_end : yX1_end.cls = "TollOnVowels" ∧ yX1_end.cls ≠ "java/lang/invoke/MethodHandle" ∧ yX1_end.cls ≠ "java/lang/invoke/VarHandle" ∧ (parseMethodDescriptor yX1_end.desc).map (fun d => d.parameters.length) = some 1 := ⟨rfl, nmh_X1_end⟩
theorem nmh_X1_in : yX1_in.cls ≠ "java/lang/invoke/MethodHandle" ∧ yX1_in.cls ≠ "java/lang/invoke/VarHandle" ∧ (parseMethodDescriptor yX1_in.desc).map (fun d => d.parameters.length) = some 3 := by decide +kernel
theorem nmh_X1_words : yX1_words.cls ≠ "java/lang/invoke/MethodHandle" ∧ yX1_words.cls ≠ "java/lang/invoke/VarHandle" ∧ (parseMethodDescriptor yX1_words.desc).map (fun d => d.parameters.length) = some 0 := by decide +kernel
theorem nmv_X1_words : yX1_words.cls = "TollOnVowels" ∧ yX1_words.cls ≠ "java/lang/invoke/MethodHandle" ∧ yX1_words.cls ≠ "java/lang/invoke/VarHandle" ∧ (parseMethodDescriptor yX1_words.desc).map (fun d => d.parameters.length) = some 0 := ⟨rfl, nmh_X1_words⟩
theorem nmh_X1_begins : yX1_begins.cls ≠ "java/lang/invoke/MethodHandle" ∧ yX1_begins.cls ≠ "java/lang/invoke/VarHandle" ∧ (parseMethodDescriptor yX1_begins.desc).map (fun d => d.parameters.length) = some 1 := by decide +kernel
theorem nmv_X1_begins : yX1_begins.cls = "TollOnVowels" ∧ yX1_begins.cls ≠ "java/lang/invoke/MethodHandle" ∧ yX1_begins.cls ≠ "java/lang/invoke/VarHandle" ∧ (parseMethodDescriptor yX1_begins.desc).map (fun d => d.parameters.length) = some 1 := ⟨rfl, nmh_X1_begins⟩
theorem nmh_X1_readsWord : yX1_readsWord.cls ≠ "java/lang/invoke/MethodHandle" ∧ yX1_readsWord.cls ≠ "java/lang/invoke/VarHandle" ∧ (parseMethodDescriptor yX1_readsWord.desc).map (fun d => d.parameters.length) = some 0 := by decide +kernel
theorem nmv_X1_readsWord : yX1_readsWord.cls = "TollOnVowels" ∧ yX1_readsWord.cls ≠ "java/lang/invoke/MethodHandle" ∧ yX1_readsWord.cls ≠ "java/lang/invoke/VarHandle" ∧ (parseMethodDescriptor yX1_readsWord.desc).map (fun d => d.parameters.length) = some 0 := ⟨rfl, nmh_X1_readsWord⟩
theorem nmh_X1_takesOf : yX1_takesOf.cls ≠ "java/lang/invoke/MethodHandle" ∧ yX1_takesOf.cls ≠ "java/lang/invoke/VarHandle" ∧ (parseMethodDescriptor yX1_takesOf.desc).map (fun d => d.parameters.length) = some 1 := by decide +kernel
theorem nmv_X1_takesOf : yX1_takesOf.cls = "TollOnVowels" ∧ yX1_takesOf.cls ≠ "java/lang/invoke/MethodHandle" ∧ yX1_takesOf.cls ≠ "java/lang/invoke/VarHandle" ∧ (parseMethodDescriptor yX1_takesOf.desc).map (fun d => d.parameters.length) = some 1 := ⟨rfl, nmh_X1_takesOf⟩
theorem nmh_X1_among : yX1_among.cls ≠ "java/lang/invoke/MethodHandle" ∧ yX1_among.cls ≠ "java/lang/invoke/VarHandle" ∧ (parseMethodDescriptor yX1_among.desc).map (fun d => d.parameters.length) = some 1 := by decide +kernel
theorem nmv_X1_among : yX1_among.cls = "TollOnVowels" ∧ yX1_among.cls ≠ "java/lang/invoke/MethodHandle" ∧ yX1_among.cls ≠ "java/lang/invoke/VarHandle" ∧ (parseMethodDescriptor yX1_among.desc).map (fun d => d.parameters.length) = some 1 := ⟨rfl, nmh_X1_among⟩
theorem nmh_X1_eats : yX1_eats.cls ≠ "java/lang/invoke/MethodHandle" ∧ yX1_eats.cls ≠ "java/lang/invoke/VarHandle" ∧ (parseMethodDescriptor yX1_eats.desc).map (fun d => d.parameters.length) = some 1 := by decide +kernel
theorem nmv_X1_eats : yX1_eats.cls = "TollOnVowels" ∧ yX1_eats.cls ≠ "java/lang/invoke/MethodHandle" ∧ yX1_eats.cls ≠ "java/lang/invoke/VarHandle" ∧ (parseMethodDescriptor yX1_eats.desc).map (fun d => d.parameters.length) = some 1 := ⟨rfl, nmh_X1_eats⟩
theorem nmh_X1_isAt : yX1_isAt.cls ≠ "java/lang/invoke/MethodHandle" ∧ yX1_isAt.cls ≠ "java/lang/invoke/VarHandle" ∧ (parseMethodDescriptor yX1_isAt.desc).map (fun d => d.parameters.length) = some 1 := by decide +kernel
theorem nmv_X1_isAt : yX1_isAt.cls = "TollOnVowels" ∧ yX1_isAt.cls ≠ "java/lang/invoke/MethodHandle" ∧ yX1_isAt.cls ≠ "java/lang/invoke/VarHandle" ∧ (parseMethodDescriptor yX1_isAt.desc).map (fun d => d.parameters.length) = some 1 := ⟨rfl, nmh_X1_isAt⟩
theorem nmh_X1_faultOf : yX1_faultOf.cls ≠ "java/lang/invoke/MethodHandle" ∧ yX1_faultOf.cls ≠ "java/lang/invoke/VarHandle" ∧ (parseMethodDescriptor yX1_faultOf.desc).map (fun d => d.parameters.length) = some 2 := by decide +kernel
theorem nmv_X1_faultOf : yX1_faultOf.cls = "TollOnVowels" ∧ yX1_faultOf.cls ≠ "java/lang/invoke/MethodHandle" ∧ yX1_faultOf.cls ≠ "java/lang/invoke/VarHandle" ∧ (parseMethodDescriptor yX1_faultOf.desc).map (fun d => d.parameters.length) = some 2 := ⟨rfl, nmh_X1_faultOf⟩
theorem nmh_X1_isNew : yX1_isNew.cls ≠ "java/lang/invoke/MethodHandle" ∧ yX1_isNew.cls ≠ "java/lang/invoke/VarHandle" ∧ (parseMethodDescriptor yX1_isNew.desc).map (fun d => d.parameters.length) = some 0 := by decide +kernel
theorem nmv_X1_isNew : yX1_isNew.cls = "TollOnVowels" ∧ yX1_isNew.cls ≠ "java/lang/invoke/MethodHandle" ∧ yX1_isNew.cls ≠ "java/lang/invoke/VarHandle" ∧ (parseMethodDescriptor yX1_isNew.desc).map (fun d => d.parameters.length) = some 0 := ⟨rfl, nmh_X1_isNew⟩
theorem nmh_X1_travellers : yX1_travellers.cls ≠ "java/lang/invoke/MethodHandle" ∧ yX1_travellers.cls ≠ "java/lang/invoke/VarHandle" ∧ (parseMethodDescriptor yX1_travellers.desc).map (fun d => d.parameters.length) = some 0 := by decide +kernel
theorem nmv_X1_travellers : yX1_travellers.cls = "TollOnVowels" ∧ yX1_travellers.cls ≠ "java/lang/invoke/MethodHandle" ∧ yX1_travellers.cls ≠ "java/lang/invoke/VarHandle" ∧ (parseMethodDescriptor yX1_travellers.desc).map (fun d => d.parameters.length) = some 0 := ⟨rfl, nmh_X1_travellers⟩
theorem nmh_X1_readsTraveller : yX1_readsTraveller.cls ≠ "java/lang/invoke/MethodHandle" ∧ yX1_readsTraveller.cls ≠ "java/lang/invoke/VarHandle" ∧ (parseMethodDescriptor yX1_readsTraveller.desc).map (fun d => d.parameters.length) = some 0 := by decide +kernel
theorem nmv_X1_readsTraveller : yX1_readsTraveller.cls = "TollOnVowels" ∧ yX1_readsTraveller.cls ≠ "java/lang/invoke/MethodHandle" ∧ yX1_readsTraveller.cls ≠ "java/lang/invoke/VarHandle" ∧ (parseMethodDescriptor yX1_readsTraveller.desc).map (fun d => d.parameters.length) = some 0 := ⟨rfl, nmh_X1_readsTraveller⟩
theorem nmh_X1_readsStation : yX1_readsStation.cls ≠ "java/lang/invoke/MethodHandle" ∧ yX1_readsStation.cls ≠ "java/lang/invoke/VarHandle" ∧ (parseMethodDescriptor yX1_readsStation.desc).map (fun d => d.parameters.length) = some 0 := by decide +kernel
theorem nmv_X1_readsStation : yX1_readsStation.cls = "TollOnVowels" ∧ yX1_readsStation.cls ≠ "java/lang/invoke/MethodHandle" ∧ yX1_readsStation.cls ≠ "java/lang/invoke/VarHandle" ∧ (parseMethodDescriptor yX1_readsStation.desc).map (fun d => d.parameters.length) = some 0 := ⟨rfl, nmh_X1_readsStation⟩
theorem nmh_X1_number : yX1_number.cls ≠ "java/lang/invoke/MethodHandle" ∧ yX1_number.cls ≠ "java/lang/invoke/VarHandle" ∧ (parseMethodDescriptor yX1_number.desc).map (fun d => d.parameters.length) = some 1 := by decide +kernel
theorem nmv_X1_number : yX1_number.cls = "TollOnVowels" ∧ yX1_number.cls ≠ "java/lang/invoke/MethodHandle" ∧ yX1_number.cls ≠ "java/lang/invoke/VarHandle" ∧ (parseMethodDescriptor yX1_number.desc).map (fun d => d.parameters.length) = some 1 := ⟨rfl, nmh_X1_number⟩
theorem nmh_X1_isDigit : yX1_isDigit.cls ≠ "java/lang/invoke/MethodHandle" ∧ yX1_isDigit.cls ≠ "java/lang/invoke/VarHandle" ∧ (parseMethodDescriptor yX1_isDigit.desc).map (fun d => d.parameters.length) = some 0 := by decide +kernel
theorem nmv_X1_isDigit : yX1_isDigit.cls = "TollOnVowels" ∧ yX1_isDigit.cls ≠ "java/lang/invoke/MethodHandle" ∧ yX1_isDigit.cls ≠ "java/lang/invoke/VarHandle" ∧ (parseMethodDescriptor yX1_isDigit.desc).map (fun d => d.parameters.length) = some 0 := ⟨rfl, nmh_X1_isDigit⟩
theorem nmh_X1_errands : yX1_errands.cls ≠ "java/lang/invoke/MethodHandle" ∧ yX1_errands.cls ≠ "java/lang/invoke/VarHandle" ∧ (parseMethodDescriptor yX1_errands.desc).map (fun d => d.parameters.length) = some 0 := by decide +kernel
theorem nmv_X1_errands : yX1_errands.cls = "TollOnVowels" ∧ yX1_errands.cls ≠ "java/lang/invoke/MethodHandle" ∧ yX1_errands.cls ≠ "java/lang/invoke/VarHandle" ∧ (parseMethodDescriptor yX1_errands.desc).map (fun d => d.parameters.length) = some 0 := ⟨rfl, nmh_X1_errands⟩
theorem nmh_X1_readsErrand : yX1_readsErrand.cls ≠ "java/lang/invoke/MethodHandle" ∧ yX1_readsErrand.cls ≠ "java/lang/invoke/VarHandle" ∧ (parseMethodDescriptor yX1_readsErrand.desc).map (fun d => d.parameters.length) = some 0 := by decide +kernel
theorem nmv_X1_readsErrand : yX1_readsErrand.cls = "TollOnVowels" ∧ yX1_readsErrand.cls ≠ "java/lang/invoke/MethodHandle" ∧ yX1_readsErrand.cls ≠ "java/lang/invoke/VarHandle" ∧ (parseMethodDescriptor yX1_readsErrand.desc).map (fun d => d.parameters.length) = some 0 := ⟨rfl, nmh_X1_readsErrand⟩
theorem nmh_X1_road : yX1_road.cls ≠ "java/lang/invoke/MethodHandle" ∧ yX1_road.cls ≠ "java/lang/invoke/VarHandle" ∧ (parseMethodDescriptor yX1_road.desc).map (fun d => d.parameters.length) = some 1 := by decide +kernel
theorem nmv_X1_road : yX1_road.cls = "TollOnVowels" ∧ yX1_road.cls ≠ "java/lang/invoke/MethodHandle" ∧ yX1_road.cls ≠ "java/lang/invoke/VarHandle" ∧ (parseMethodDescriptor yX1_road.desc).map (fun d => d.parameters.length) = some 1 := ⟨rfl, nmh_X1_road⟩
theorem nmh_X1_rule : yX1_rule.cls ≠ "java/lang/invoke/MethodHandle" ∧ yX1_rule.cls ≠ "java/lang/invoke/VarHandle" ∧ (parseMethodDescriptor yX1_rule.desc).map (fun d => d.parameters.length) = some 0 := by decide +kernel
theorem nmv_X1_rule : yX1_rule.cls = "TollOnVowels" ∧ yX1_rule.cls ≠ "java/lang/invoke/MethodHandle" ∧ yX1_rule.cls ≠ "java/lang/invoke/VarHandle" ∧ (parseMethodDescriptor yX1_rule.desc).map (fun d => d.parameters.length) = some 0 := ⟨rfl, nmh_X1_rule⟩
theorem nmh_X1_readsRule : yX1_readsRule.cls ≠ "java/lang/invoke/MethodHandle" ∧ yX1_readsRule.cls ≠ "java/lang/invoke/VarHandle" ∧ (parseMethodDescriptor yX1_readsRule.desc).map (fun d => d.parameters.length) = some 0 := by decide +kernel
theorem nmv_X1_readsRule : yX1_readsRule.cls = "TollOnVowels" ∧ yX1_readsRule.cls ≠ "java/lang/invoke/MethodHandle" ∧ yX1_readsRule.cls ≠ "java/lang/invoke/VarHandle" ∧ (parseMethodDescriptor yX1_readsRule.desc).map (fun d => d.parameters.length) = some 0 := ⟨rfl, nmh_X1_readsRule⟩
theorem nmh_X1_reads : yX1_reads.cls ≠ "java/lang/invoke/MethodHandle" ∧ yX1_reads.cls ≠ "java/lang/invoke/VarHandle" ∧ (parseMethodDescriptor yX1_reads.desc).map (fun d => d.parameters.length) = some 1 := by decide +kernel
theorem nmv_X1_reads : yX1_reads.cls = "TollOnVowels" ∧ yX1_reads.cls ≠ "java/lang/invoke/MethodHandle" ∧ yX1_reads.cls ≠ "java/lang/invoke/VarHandle" ∧ (parseMethodDescriptor yX1_reads.desc).map (fun d => d.parameters.length) = some 1 := ⟨rfl, nmh_X1_reads⟩
theorem nmh_X1_readsThing : yX1_readsThing.cls ≠ "java/lang/invoke/MethodHandle" ∧ yX1_readsThing.cls ≠ "java/lang/invoke/VarHandle" ∧ (parseMethodDescriptor yX1_readsThing.desc).map (fun d => d.parameters.length) = some 0 := by decide +kernel
theorem nmv_X1_readsThing : yX1_readsThing.cls = "TollOnVowels" ∧ yX1_readsThing.cls ≠ "java/lang/invoke/MethodHandle" ∧ yX1_readsThing.cls ≠ "java/lang/invoke/VarHandle" ∧ (parseMethodDescriptor yX1_readsThing.desc).map (fun d => d.parameters.length) = some 0 := ⟨rfl, nmh_X1_readsThing⟩
theorem nmh_X1_acts : yX1_acts.cls ≠ "java/lang/invoke/MethodHandle" ∧ yX1_acts.cls ≠ "java/lang/invoke/VarHandle" ∧ (parseMethodDescriptor yX1_acts.desc).map (fun d => d.parameters.length) = some 1 := by decide +kernel
theorem nmh_X1_sheet : yX1_sheet.cls ≠ "java/lang/invoke/MethodHandle" ∧ yX1_sheet.cls ≠ "java/lang/invoke/VarHandle" ∧ (parseMethodDescriptor yX1_sheet.desc).map (fun d => d.parameters.length) = some 4 := by decide +kernel
theorem nmv_X1_sheet : yX1_sheet.cls = "TollOnVowels" ∧ yX1_sheet.cls ≠ "java/lang/invoke/MethodHandle" ∧ yX1_sheet.cls ≠ "java/lang/invoke/VarHandle" ∧ (parseMethodDescriptor yX1_sheet.desc).map (fun d => d.parameters.length) = some 4 := ⟨rfl, nmh_X1_sheet⟩
theorem nmh_X1_undo : yX1_undo.cls ≠ "java/lang/invoke/MethodHandle" ∧ yX1_undo.cls ≠ "java/lang/invoke/VarHandle" ∧ (parseMethodDescriptor yX1_undo.desc).map (fun d => d.parameters.length) = some 0 := by decide +kernel
theorem nmv_X1_undo : yX1_undo.cls = "TollOnVowels" ∧ yX1_undo.cls ≠ "java/lang/invoke/MethodHandle" ∧ yX1_undo.cls ≠ "java/lang/invoke/VarHandle" ∧ (parseMethodDescriptor yX1_undo.desc).map (fun d => d.parameters.length) = some 0 := ⟨rfl, nmh_X1_undo⟩
theorem nmh_X1_toll : yX1_toll.cls ≠ "java/lang/invoke/MethodHandle" ∧ yX1_toll.cls ≠ "java/lang/invoke/VarHandle" ∧ (parseMethodDescriptor yX1_toll.desc).map (fun d => d.parameters.length) = some 2 := by decide +kernel
theorem nmv_X1_toll : yX1_toll.cls = "TollOnVowels" ∧ yX1_toll.cls ≠ "java/lang/invoke/MethodHandle" ∧ yX1_toll.cls ≠ "java/lang/invoke/VarHandle" ∧ (parseMethodDescriptor yX1_toll.desc).map (fun d => d.parameters.length) = some 2 := ⟨rfl, nmh_X1_toll⟩
theorem nmh_X1_isWord : yX1_isWord.cls ≠ "java/lang/invoke/MethodHandle" ∧ yX1_isWord.cls ≠ "java/lang/invoke/VarHandle" ∧ (parseMethodDescriptor yX1_isWord.desc).map (fun d => d.parameters.length) = some 1 := by decide +kernel
theorem nmv_X1_isWord : yX1_isWord.cls = "TollOnVowels" ∧ yX1_isWord.cls ≠ "java/lang/invoke/MethodHandle" ∧ yX1_isWord.cls ≠ "java/lang/invoke/VarHandle" ∧ (parseMethodDescriptor yX1_isWord.desc).map (fun d => d.parameters.length) = some 1 := ⟨rfl, nmh_X1_isWord⟩
theorem nmh_X1_isStation : yX1_isStation.cls ≠ "java/lang/invoke/MethodHandle" ∧ yX1_isStation.cls ≠ "java/lang/invoke/VarHandle" ∧ (parseMethodDescriptor yX1_isStation.desc).map (fun d => d.parameters.length) = some 1 := by decide +kernel
theorem nmv_X1_isStation : yX1_isStation.cls = "TollOnVowels" ∧ yX1_isStation.cls ≠ "java/lang/invoke/MethodHandle" ∧ yX1_isStation.cls ≠ "java/lang/invoke/VarHandle" ∧ (parseMethodDescriptor yX1_isStation.desc).map (fun d => d.parameters.length) = some 1 := ⟨rfl, nmh_X1_isStation⟩
theorem nmh_X1_tollOf : yX1_tollOf.cls ≠ "java/lang/invoke/MethodHandle" ∧ yX1_tollOf.cls ≠ "java/lang/invoke/VarHandle" ∧ (parseMethodDescriptor yX1_tollOf.desc).map (fun d => d.parameters.length) = some 3 := by decide +kernel
theorem nmv_X1_tollOf : yX1_tollOf.cls = "TollOnVowels" ∧ yX1_tollOf.cls ≠ "java/lang/invoke/MethodHandle" ∧ yX1_tollOf.cls ≠ "java/lang/invoke/VarHandle" ∧ (parseMethodDescriptor yX1_tollOf.desc).map (fun d => d.parameters.length) = some 3 := ⟨rfl, nmh_X1_tollOf⟩
theorem nmh_X1_vowelAt : yX1_vowelAt.cls ≠ "java/lang/invoke/MethodHandle" ∧ yX1_vowelAt.cls ≠ "java/lang/invoke/VarHandle" ∧ (parseMethodDescriptor yX1_vowelAt.desc).map (fun d => d.parameters.length) = some 2 := by decide +kernel
theorem nmv_X1_vowelAt : yX1_vowelAt.cls = "TollOnVowels" ∧ yX1_vowelAt.cls ≠ "java/lang/invoke/MethodHandle" ∧ yX1_vowelAt.cls ≠ "java/lang/invoke/VarHandle" ∧ (parseMethodDescriptor yX1_vowelAt.desc).map (fun d => d.parameters.length) = some 2 := ⟨rfl, nmh_X1_vowelAt⟩
theorem nmh_X1_tells : yX1_tells.cls ≠ "java/lang/invoke/MethodHandle" ∧ yX1_tells.cls ≠ "java/lang/invoke/VarHandle" ∧ (parseMethodDescriptor yX1_tells.desc).map (fun d => d.parameters.length) = some 1 := by decide +kernel
theorem nmv_X1_tells : yX1_tells.cls = "TollOnVowels" ∧ yX1_tells.cls ≠ "java/lang/invoke/MethodHandle" ∧ yX1_tells.cls ≠ "java/lang/invoke/VarHandle" ∧ (parseMethodDescriptor yX1_tells.desc).map (fun d => d.parameters.length) = some 1 := ⟨rfl, nmh_X1_tells⟩
theorem nmh_X1_walk : yX1_walk.cls ≠ "java/lang/invoke/MethodHandle" ∧ yX1_walk.cls ≠ "java/lang/invoke/VarHandle" ∧ (parseMethodDescriptor yX1_walk.desc).map (fun d => d.parameters.length) = some 2 := by decide +kernel
theorem nmv_X1_walk : yX1_walk.cls = "TollOnVowels" ∧ yX1_walk.cls ≠ "java/lang/invoke/MethodHandle" ∧ yX1_walk.cls ≠ "java/lang/invoke/VarHandle" ∧ (parseMethodDescriptor yX1_walk.desc).map (fun d => d.parameters.length) = some 2 := ⟨rfl, nmh_X1_walk⟩
theorem nmh_X1_walks : yX1_walks.cls ≠ "java/lang/invoke/MethodHandle" ∧ yX1_walks.cls ≠ "java/lang/invoke/VarHandle" ∧ (parseMethodDescriptor yX1_walks.desc).map (fun d => d.parameters.length) = some 3 := by decide +kernel
theorem nmv_X1_walks : yX1_walks.cls = "TollOnVowels" ∧ yX1_walks.cls ≠ "java/lang/invoke/MethodHandle" ∧ yX1_walks.cls ≠ "java/lang/invoke/VarHandle" ∧ (parseMethodDescriptor yX1_walks.desc).map (fun d => d.parameters.length) = some 3 := ⟨rfl, nmh_X1_walks⟩
theorem nmh_X1_isTraveller : yX1_isTraveller.cls ≠ "java/lang/invoke/MethodHandle" ∧ yX1_isTraveller.cls ≠ "java/lang/invoke/VarHandle" ∧ (parseMethodDescriptor yX1_isTraveller.desc).map (fun d => d.parameters.length) = some 1 := by decide +kernel
theorem nmv_X1_isTraveller : yX1_isTraveller.cls = "TollOnVowels" ∧ yX1_isTraveller.cls ≠ "java/lang/invoke/MethodHandle" ∧ yX1_isTraveller.cls ≠ "java/lang/invoke/VarHandle" ∧ (parseMethodDescriptor yX1_isTraveller.desc).map (fun d => d.parameters.length) = some 1 := ⟨rfl, nmh_X1_isTraveller⟩
theorem nmh_X1_counts : yX1_counts.cls ≠ "java/lang/invoke/MethodHandle" ∧ yX1_counts.cls ≠ "java/lang/invoke/VarHandle" ∧ (parseMethodDescriptor yX1_counts.desc).map (fun d => d.parameters.length) = some 1 := by decide +kernel
theorem nmv_X1_counts : yX1_counts.cls = "TollOnVowels" ∧ yX1_counts.cls ≠ "java/lang/invoke/MethodHandle" ∧ yX1_counts.cls ≠ "java/lang/invoke/VarHandle" ∧ (parseMethodDescriptor yX1_counts.desc).map (fun d => d.parameters.length) = some 1 := ⟨rfl, nmh_X1_counts⟩
theorem nmh_X1_putsBy : yX1_putsBy.cls ≠ "java/lang/invoke/MethodHandle" ∧ yX1_putsBy.cls ≠ "java/lang/invoke/VarHandle" ∧ (parseMethodDescriptor yX1_putsBy.desc).map (fun d => d.parameters.length) = some 1 := by decide +kernel
theorem nmv_X1_putsBy : yX1_putsBy.cls = "TollOnVowels" ∧ yX1_putsBy.cls ≠ "java/lang/invoke/MethodHandle" ∧ yX1_putsBy.cls ≠ "java/lang/invoke/VarHandle" ∧ (parseMethodDescriptor yX1_putsBy.desc).map (fun d => d.parameters.length) = some 1 := ⟨rfl, nmh_X1_putsBy⟩
theorem nmh_X1_pause : yX1_pause.cls ≠ "java/lang/invoke/MethodHandle" ∧ yX1_pause.cls ≠ "java/lang/invoke/VarHandle" ∧ (parseMethodDescriptor yX1_pause.desc).map (fun d => d.parameters.length) = some 1 := by decide +kernel
theorem nmv_X1_pause : yX1_pause.cls = "TollOnVowels" ∧ yX1_pause.cls ≠ "java/lang/invoke/MethodHandle" ∧ yX1_pause.cls ≠ "java/lang/invoke/VarHandle" ∧ (parseMethodDescriptor yX1_pause.desc).map (fun d => d.parameters.length) = some 1 := ⟨rfl, nmh_X1_pause⟩
theorem nmh_X1_say : yX1_say.cls ≠ "java/lang/invoke/MethodHandle" ∧ yX1_say.cls ≠ "java/lang/invoke/VarHandle" ∧ (parseMethodDescriptor yX1_say.desc).map (fun d => d.parameters.length) = some 2 := by decide +kernel
theorem nmv_X1_say : yX1_say.cls = "TollOnVowels" ∧ yX1_say.cls ≠ "java/lang/invoke/MethodHandle" ∧ yX1_say.cls ≠ "java/lang/invoke/VarHandle" ∧ (parseMethodDescriptor yX1_say.desc).map (fun d => d.parameters.length) = some 2 := ⟨rfl, nmh_X1_say⟩
theorem nmh_X1_says : yX1_says.cls ≠ "java/lang/invoke/MethodHandle" ∧ yX1_says.cls ≠ "java/lang/invoke/VarHandle" ∧ (parseMethodDescriptor yX1_says.desc).map (fun d => d.parameters.length) = some 3 := by decide +kernel
theorem nmv_X1_says : yX1_says.cls = "TollOnVowels" ∧ yX1_says.cls ≠ "java/lang/invoke/MethodHandle" ∧ yX1_says.cls ≠ "java/lang/invoke/VarHandle" ∧ (parseMethodDescriptor yX1_says.desc).map (fun d => d.parameters.length) = some 3 := ⟨rfl, nmh_X1_says⟩
theorem nmh_X1_doesBy : yX1_doesBy.cls ≠ "java/lang/invoke/MethodHandle" ∧ yX1_doesBy.cls ≠ "java/lang/invoke/VarHandle" ∧ (parseMethodDescriptor yX1_doesBy.desc).map (fun d => d.parameters.length) = some 4 := by decide +kernel
theorem nmv_X1_doesBy : yX1_doesBy.cls = "TollOnVowels" ∧ yX1_doesBy.cls ≠ "java/lang/invoke/MethodHandle" ∧ yX1_doesBy.cls ≠ "java/lang/invoke/VarHandle" ∧ (parseMethodDescriptor yX1_doesBy.desc).map (fun d => d.parameters.length) = some 4 := ⟨rfl, nmh_X1_doesBy⟩
theorem nmh_X1_has : yX1_has.cls ≠ "java/lang/invoke/MethodHandle" ∧ yX1_has.cls ≠ "java/lang/invoke/VarHandle" ∧ (parseMethodDescriptor yX1_has.desc).map (fun d => d.parameters.length) = some 2 := by decide +kernel
theorem nmh_X1_means : yX1_means.cls ≠ "java/lang/invoke/MethodHandle" ∧ yX1_means.cls ≠ "java/lang/invoke/VarHandle" ∧ (parseMethodDescriptor yX1_means.desc).map (fun d => d.parameters.length) = some 2 := by decide +kernel
theorem nmv_X1_means : yX1_means.cls = "TollOnVowels" ∧ yX1_means.cls ≠ "java/lang/invoke/MethodHandle" ∧ yX1_means.cls ≠ "java/lang/invoke/VarHandle" ∧ (parseMethodDescriptor yX1_means.desc).map (fun d => d.parameters.length) = some 2 := ⟨rfl, nmh_X1_means⟩
theorem nmh_X1_alms : yX1_alms.cls ≠ "java/lang/invoke/MethodHandle" ∧ yX1_alms.cls ≠ "java/lang/invoke/VarHandle" ∧ (parseMethodDescriptor yX1_alms.desc).map (fun d => d.parameters.length) = some 3 := by decide +kernel
theorem nmv_X1_alms : yX1_alms.cls = "TollOnVowels" ∧ yX1_alms.cls ≠ "java/lang/invoke/MethodHandle" ∧ yX1_alms.cls ≠ "java/lang/invoke/VarHandle" ∧ (parseMethodDescriptor yX1_alms.desc).map (fun d => d.parameters.length) = some 3 := ⟨rfl, nmh_X1_alms⟩
theorem nmh_X1_givesAlms : yX1_givesAlms.cls ≠ "java/lang/invoke/MethodHandle" ∧ yX1_givesAlms.cls ≠ "java/lang/invoke/VarHandle" ∧ (parseMethodDescriptor yX1_givesAlms.desc).map (fun d => d.parameters.length) = some 3 := by decide +kernel
theorem nmv_X1_givesAlms : yX1_givesAlms.cls = "TollOnVowels" ∧ yX1_givesAlms.cls ≠ "java/lang/invoke/MethodHandle" ∧ yX1_givesAlms.cls ≠ "java/lang/invoke/VarHandle" ∧ (parseMethodDescriptor yX1_givesAlms.desc).map (fun d => d.parameters.length) = some 3 := ⟨rfl, nmh_X1_givesAlms⟩
theorem nmh_X1_journey : yX1_journey.cls ≠ "java/lang/invoke/MethodHandle" ∧ yX1_journey.cls ≠ "java/lang/invoke/VarHandle" ∧ (parseMethodDescriptor yX1_journey.desc).map (fun d => d.parameters.length) = some 0 := by decide +kernel
theorem nmv_X1_journey : yX1_journey.cls = "TollOnVowels" ∧ yX1_journey.cls ≠ "java/lang/invoke/MethodHandle" ∧ yX1_journey.cls ≠ "java/lang/invoke/VarHandle" ∧ (parseMethodDescriptor yX1_journey.desc).map (fun d => d.parameters.length) = some 0 := ⟨rfl, nmh_X1_journey⟩
theorem nmh_X1_readsAct : yX1_readsAct.cls ≠ "java/lang/invoke/MethodHandle" ∧ yX1_readsAct.cls ≠ "java/lang/invoke/VarHandle" ∧ (parseMethodDescriptor yX1_readsAct.desc).map (fun d => d.parameters.length) = some 0 := by decide +kernel
theorem nmv_X1_readsAct : yX1_readsAct.cls = "TollOnVowels" ∧ yX1_readsAct.cls ≠ "java/lang/invoke/MethodHandle" ∧ yX1_readsAct.cls ≠ "java/lang/invoke/VarHandle" ∧ (parseMethodDescriptor yX1_readsAct.desc).map (fun d => d.parameters.length) = some 0 := ⟨rfl, nmh_X1_readsAct⟩
theorem nmh_X1_does : yX1_does.cls ≠ "java/lang/invoke/MethodHandle" ∧ yX1_does.cls ≠ "java/lang/invoke/VarHandle" ∧ (parseMethodDescriptor yX1_does.desc).map (fun d => d.parameters.length) = some 1 := by decide +kernel
theorem nmv_X1_does : yX1_does.cls = "TollOnVowels" ∧ yX1_does.cls ≠ "java/lang/invoke/MethodHandle" ∧ yX1_does.cls ≠ "java/lang/invoke/VarHandle" ∧ (parseMethodDescriptor yX1_does.desc).map (fun d => d.parameters.length) = some 1 := ⟨rfl, nmh_X1_does⟩
theorem nmh_X1_wordFor : yX1_wordFor.cls ≠ "java/lang/invoke/MethodHandle" ∧ yX1_wordFor.cls ≠ "java/lang/invoke/VarHandle" ∧ (parseMethodDescriptor yX1_wordFor.desc).map (fun d => d.parameters.length) = some 1 := by decide +kernel
theorem nmv_X1_wordFor : yX1_wordFor.cls = "TollOnVowels" ∧ yX1_wordFor.cls ≠ "java/lang/invoke/MethodHandle" ∧ yX1_wordFor.cls ≠ "java/lang/invoke/VarHandle" ∧ (parseMethodDescriptor yX1_wordFor.desc).map (fun d => d.parameters.length) = some 1 := ⟨rfl, nmh_X1_wordFor⟩
theorem nmh_X1_errandsOf : yX1_errandsOf.cls ≠ "java/lang/invoke/MethodHandle" ∧ yX1_errandsOf.cls ≠ "java/lang/invoke/VarHandle" ∧ (parseMethodDescriptor yX1_errandsOf.desc).map (fun d => d.parameters.length) = some 1 := by decide +kernel
theorem nmv_X1_errandsOf : yX1_errandsOf.cls = "TollOnVowels" ∧ yX1_errandsOf.cls ≠ "java/lang/invoke/MethodHandle" ∧ yX1_errandsOf.cls ≠ "java/lang/invoke/VarHandle" ∧ (parseMethodDescriptor yX1_errandsOf.desc).map (fun d => d.parameters.length) = some 1 := ⟨rfl, nmh_X1_errandsOf⟩
theorem nmh_X1_cheapestFor : yX1_cheapestFor.cls ≠ "java/lang/invoke/MethodHandle" ∧ yX1_cheapestFor.cls ≠ "java/lang/invoke/VarHandle" ∧ (parseMethodDescriptor yX1_cheapestFor.desc).map (fun d => d.parameters.length) = some 3 := by decide +kernel
theorem nmv_X1_cheapestFor : yX1_cheapestFor.cls = "TollOnVowels" ∧ yX1_cheapestFor.cls ≠ "java/lang/invoke/MethodHandle" ∧ yX1_cheapestFor.cls ≠ "java/lang/invoke/VarHandle" ∧ (parseMethodDescriptor yX1_cheapestFor.desc).map (fun d => d.parameters.length) = some 3 := ⟨rfl, nmh_X1_cheapestFor⟩
theorem nmh_X1_tollNow : yX1_tollNow.cls ≠ "java/lang/invoke/MethodHandle" ∧ yX1_tollNow.cls ≠ "java/lang/invoke/VarHandle" ∧ (parseMethodDescriptor yX1_tollNow.desc).map (fun d => d.parameters.length) = some 2 := by decide +kernel
theorem nmv_X1_tollNow : yX1_tollNow.cls = "TollOnVowels" ∧ yX1_tollNow.cls ≠ "java/lang/invoke/MethodHandle" ∧ yX1_tollNow.cls ≠ "java/lang/invoke/VarHandle" ∧ (parseMethodDescriptor yX1_tollNow.desc).map (fun d => d.parameters.length) = some 2 := ⟨rfl, nmh_X1_tollNow⟩
theorem nmh_X1_vowelsOf : yX1_vowelsOf.cls ≠ "java/lang/invoke/MethodHandle" ∧ yX1_vowelsOf.cls ≠ "java/lang/invoke/VarHandle" ∧ (parseMethodDescriptor yX1_vowelsOf.desc).map (fun d => d.parameters.length) = some 1 := by decide +kernel
theorem nmv_X1_vowelsOf : yX1_vowelsOf.cls = "TollOnVowels" ∧ yX1_vowelsOf.cls ≠ "java/lang/invoke/MethodHandle" ∧ yX1_vowelsOf.cls ≠ "java/lang/invoke/VarHandle" ∧ (parseMethodDescriptor yX1_vowelsOf.desc).map (fun d => d.parameters.length) = some 1 := ⟨rfl, nmh_X1_vowelsOf⟩
theorem nmh_X1_paid : yX1_paid.cls ≠ "java/lang/invoke/MethodHandle" ∧ yX1_paid.cls ≠ "java/lang/invoke/VarHandle" ∧ (parseMethodDescriptor yX1_paid.desc).map (fun d => d.parameters.length) = some 1 := by decide +kernel
theorem nmv_X1_paid : yX1_paid.cls = "TollOnVowels" ∧ yX1_paid.cls ≠ "java/lang/invoke/MethodHandle" ∧ yX1_paid.cls ≠ "java/lang/invoke/VarHandle" ∧ (parseMethodDescriptor yX1_paid.desc).map (fun d => d.parameters.length) = some 1 := ⟨rfl, nmh_X1_paid⟩
theorem nmh_X1_cheapest : yX1_cheapest.cls ≠ "java/lang/invoke/MethodHandle" ∧ yX1_cheapest.cls ≠ "java/lang/invoke/VarHandle" ∧ (parseMethodDescriptor yX1_cheapest.desc).map (fun d => d.parameters.length) = some 2 := by decide +kernel
theorem nmv_X1_cheapest : yX1_cheapest.cls = "TollOnVowels" ∧ yX1_cheapest.cls ≠ "java/lang/invoke/MethodHandle" ∧ yX1_cheapest.cls ≠ "java/lang/invoke/VarHandle" ∧ (parseMethodDescriptor yX1_cheapest.desc).map (fun d => d.parameters.length) = some 2 := ⟨rfl, nmh_X1_cheapest⟩
theorem nmh_X1_sentence : yX1_sentence.cls ≠ "java/lang/invoke/MethodHandle" ∧ yX1_sentence.cls ≠ "java/lang/invoke/VarHandle" ∧ (parseMethodDescriptor yX1_sentence.desc).map (fun d => d.parameters.length) = some 1 := by decide +kernel
theorem nmv_X1_sentence : yX1_sentence.cls = "TollOnVowels" ∧ yX1_sentence.cls ≠ "java/lang/invoke/MethodHandle" ∧ yX1_sentence.cls ≠ "java/lang/invoke/VarHandle" ∧ (parseMethodDescriptor yX1_sentence.desc).map (fun d => d.parameters.length) = some 1 := ⟨rfl, nmh_X1_sentence⟩
theorem nmh_X1_costFrom : yX1_costFrom.cls ≠ "java/lang/invoke/MethodHandle" ∧ yX1_costFrom.cls ≠ "java/lang/invoke/VarHandle" ∧ (parseMethodDescriptor yX1_costFrom.desc).map (fun d => d.parameters.length) = some 3 := by decide +kernel
theorem nmv_X1_costFrom : yX1_costFrom.cls = "TollOnVowels" ∧ yX1_costFrom.cls ≠ "java/lang/invoke/MethodHandle" ∧ yX1_costFrom.cls ≠ "java/lang/invoke/VarHandle" ∧ (parseMethodDescriptor yX1_costFrom.desc).map (fun d => d.parameters.length) = some 3 := ⟨rfl, nmh_X1_costFrom⟩
theorem nmh_X1_tellsFrom : yX1_tellsFrom.cls ≠ "java/lang/invoke/MethodHandle" ∧ yX1_tellsFrom.cls ≠ "java/lang/invoke/VarHandle" ∧ (parseMethodDescriptor yX1_tellsFrom.desc).map (fun d => d.parameters.length) = some 2 := by decide +kernel
theorem nmv_X1_tellsFrom : yX1_tellsFrom.cls = "TollOnVowels" ∧ yX1_tellsFrom.cls ≠ "java/lang/invoke/MethodHandle" ∧ yX1_tellsFrom.cls ≠ "java/lang/invoke/VarHandle" ∧ (parseMethodDescriptor yX1_tellsFrom.desc).map (fun d => d.parameters.length) = some 2 := ⟨rfl, nmh_X1_tellsFrom⟩
theorem nmh_X1_when : yX1_when.cls ≠ "java/lang/invoke/MethodHandle" ∧ yX1_when.cls ≠ "java/lang/invoke/VarHandle" ∧ (parseMethodDescriptor yX1_when.desc).map (fun d => d.parameters.length) = some 2 := by decide +kernel
theorem nmv_X1_when : yX1_when.cls = "TollOnVowels" ∧ yX1_when.cls ≠ "java/lang/invoke/MethodHandle" ∧ yX1_when.cls ≠ "java/lang/invoke/VarHandle" ∧ (parseMethodDescriptor yX1_when.desc).map (fun d => d.parameters.length) = some 2 := ⟨rfl, nmh_X1_when⟩
theorem nmh_X1_shortest : yX1_shortest.cls ≠ "java/lang/invoke/MethodHandle" ∧ yX1_shortest.cls ≠ "java/lang/invoke/VarHandle" ∧ (parseMethodDescriptor yX1_shortest.desc).map (fun d => d.parameters.length) = some 3 := by decide +kernel
theorem nmv_X1_shortest : yX1_shortest.cls = "TollOnVowels" ∧ yX1_shortest.cls ≠ "java/lang/invoke/MethodHandle" ∧ yX1_shortest.cls ≠ "java/lang/invoke/VarHandle" ∧ (parseMethodDescriptor yX1_shortest.desc).map (fun d => d.parameters.length) = some 3 := ⟨rfl, nmh_X1_shortest⟩
theorem nmh_X1_differ : yX1_differ.cls ≠ "java/lang/invoke/MethodHandle" ∧ yX1_differ.cls ≠ "java/lang/invoke/VarHandle" ∧ (parseMethodDescriptor yX1_differ.desc).map (fun d => d.parameters.length) = some 2 := by decide +kernel
theorem nmv_X1_differ : yX1_differ.cls = "TollOnVowels" ∧ yX1_differ.cls ≠ "java/lang/invoke/MethodHandle" ∧ yX1_differ.cls ≠ "java/lang/invoke/VarHandle" ∧ (parseMethodDescriptor yX1_differ.desc).map (fun d => d.parameters.length) = some 2 := ⟨rfl, nmh_X1_differ⟩
theorem nmh_X1_changesOf : yX1_changesOf.cls ≠ "java/lang/invoke/MethodHandle" ∧ yX1_changesOf.cls ≠ "java/lang/invoke/VarHandle" ∧ (parseMethodDescriptor yX1_changesOf.desc).map (fun d => d.parameters.length) = some 3 := by decide +kernel
theorem nmv_X1_changesOf : yX1_changesOf.cls = "TollOnVowels" ∧ yX1_changesOf.cls ≠ "java/lang/invoke/MethodHandle" ∧ yX1_changesOf.cls ≠ "java/lang/invoke/VarHandle" ∧ (parseMethodDescriptor yX1_changesOf.desc).map (fun d => d.parameters.length) = some 3 := ⟨rfl, nmh_X1_changesOf⟩
theorem nmh_X1_laysRow : yX1_laysRow.cls ≠ "java/lang/invoke/MethodHandle" ∧ yX1_laysRow.cls ≠ "java/lang/invoke/VarHandle" ∧ (parseMethodDescriptor yX1_laysRow.desc).map (fun d => d.parameters.length) = some 3 := by decide +kernel
theorem nmv_X1_laysRow : yX1_laysRow.cls = "TollOnVowels" ∧ yX1_laysRow.cls ≠ "java/lang/invoke/MethodHandle" ∧ yX1_laysRow.cls ≠ "java/lang/invoke/VarHandle" ∧ (parseMethodDescriptor yX1_laysRow.desc).map (fun d => d.parameters.length) = some 3 := ⟨rfl, nmh_X1_laysRow⟩
theorem nmh_X1_near : yX1_near.cls ≠ "java/lang/invoke/MethodHandle" ∧ yX1_near.cls ≠ "java/lang/invoke/VarHandle" ∧ (parseMethodDescriptor yX1_near.desc).map (fun d => d.parameters.length) = some 1 := by decide +kernel
theorem nmv_X1_near : yX1_near.cls = "TollOnVowels" ∧ yX1_near.cls ≠ "java/lang/invoke/MethodHandle" ∧ yX1_near.cls ≠ "java/lang/invoke/VarHandle" ∧ (parseMethodDescriptor yX1_near.desc).map (fun d => d.parameters.length) = some 1 := ⟨rfl, nmh_X1_near⟩
theorem nmh_X1_heard : yX1_heard.cls ≠ "java/lang/invoke/MethodHandle" ∧ yX1_heard.cls ≠ "java/lang/invoke/VarHandle" ∧ (parseMethodDescriptor yX1_heard.desc).map (fun d => d.parameters.length) = some 3 := by decide +kernel
theorem nmv_X1_heard : yX1_heard.cls = "TollOnVowels" ∧ yX1_heard.cls ≠ "java/lang/invoke/MethodHandle" ∧ yX1_heard.cls ≠ "java/lang/invoke/VarHandle" ∧ (parseMethodDescriptor yX1_heard.desc).map (fun d => d.parameters.length) = some 3 := ⟨rfl, nmh_X1_heard⟩
theorem nmh_X1_common : yX1_common.cls ≠ "java/lang/invoke/MethodHandle" ∧ yX1_common.cls ≠ "java/lang/invoke/VarHandle" ∧ (parseMethodDescriptor yX1_common.desc).map (fun d => d.parameters.length) = some 2 := by decide +kernel
theorem nmh_X1_code : yX1_code.cls ≠ "java/lang/invoke/MethodHandle" ∧ yX1_code.cls ≠ "java/lang/invoke/VarHandle" ∧ (parseMethodDescriptor yX1_code.desc).map (fun d => d.parameters.length) = some 1 := by decide +kernel
theorem nmv_X1_code : yX1_code.cls = "TollOnVowels" ∧ yX1_code.cls ≠ "java/lang/invoke/MethodHandle" ∧ yX1_code.cls ≠ "java/lang/invoke/VarHandle" ∧ (parseMethodDescriptor yX1_code.desc).map (fun d => d.parameters.length) = some 1 := ⟨rfl, nmh_X1_code⟩
theorem nmh_X1_areApart : yX1_areApart.cls ≠ "java/lang/invoke/MethodHandle" ∧ yX1_areApart.cls ≠ "java/lang/invoke/VarHandle" ∧ (parseMethodDescriptor yX1_areApart.desc).map (fun d => d.parameters.length) = some 2 := by decide +kernel
theorem nmv_X1_areApart : yX1_areApart.cls = "TollOnVowels" ∧ yX1_areApart.cls ≠ "java/lang/invoke/MethodHandle" ∧ yX1_areApart.cls ≠ "java/lang/invoke/VarHandle" ∧ (parseMethodDescriptor yX1_areApart.desc).map (fun d => d.parameters.length) = some 2 := ⟨rfl, nmh_X1_areApart⟩
theorem nmh_X1_tollOfAll : yX1_tollOfAll.cls ≠ "java/lang/invoke/MethodHandle" ∧ yX1_tollOfAll.cls ≠ "java/lang/invoke/VarHandle" ∧ (parseMethodDescriptor yX1_tollOfAll.desc).map (fun d => d.parameters.length) = some 1 := by decide +kernel
theorem nmv_X1_tollOfAll : yX1_tollOfAll.cls = "TollOnVowels" ∧ yX1_tollOfAll.cls ≠ "java/lang/invoke/MethodHandle" ∧ yX1_tollOfAll.cls ≠ "java/lang/invoke/VarHandle" ∧ (parseMethodDescriptor yX1_tollOfAll.desc).map (fun d => d.parameters.length) = some 1 := ⟨rfl, nmh_X1_tollOfAll⟩
theorem nmh_X1_trip : yX1_trip.cls ≠ "java/lang/invoke/MethodHandle" ∧ yX1_trip.cls ≠ "java/lang/invoke/VarHandle" ∧ (parseMethodDescriptor yX1_trip.desc).map (fun d => d.parameters.length) = some 2 := by decide +kernel
theorem nmv_X1_trip : yX1_trip.cls = "TollOnVowels" ∧ yX1_trip.cls ≠ "java/lang/invoke/MethodHandle" ∧ yX1_trip.cls ≠ "java/lang/invoke/VarHandle" ∧ (parseMethodDescriptor yX1_trip.desc).map (fun d => d.parameters.length) = some 2 := ⟨rfl, nmh_X1_trip⟩
theorem nmh_X1_laysTrip : yX1_laysTrip.cls ≠ "java/lang/invoke/MethodHandle" ∧ yX1_laysTrip.cls ≠ "java/lang/invoke/VarHandle" ∧ (parseMethodDescriptor yX1_laysTrip.desc).map (fun d => d.parameters.length) = some 2 := by decide +kernel
theorem nmv_X1_laysTrip : yX1_laysTrip.cls = "TollOnVowels" ∧ yX1_laysTrip.cls ≠ "java/lang/invoke/MethodHandle" ∧ yX1_laysTrip.cls ≠ "java/lang/invoke/VarHandle" ∧ (parseMethodDescriptor yX1_laysTrip.desc).map (fun d => d.parameters.length) = some 2 := ⟨rfl, nmh_X1_laysTrip⟩
theorem nmh_X1_spot : yX1_spot.cls ≠ "java/lang/invoke/MethodHandle" ∧ yX1_spot.cls ≠ "java/lang/invoke/VarHandle" ∧ (parseMethodDescriptor yX1_spot.desc).map (fun d => d.parameters.length) = some 3 := by decide +kernel
theorem nmh_X1_laysSayings : yX1_laysSayings.cls ≠ "java/lang/invoke/MethodHandle" ∧ yX1_laysSayings.cls ≠ "java/lang/invoke/VarHandle" ∧ (parseMethodDescriptor yX1_laysSayings.desc).map (fun d => d.parameters.length) = some 3 := by decide +kernel
theorem nmv_X1_laysSayings : yX1_laysSayings.cls = "TollOnVowels" ∧ yX1_laysSayings.cls ≠ "java/lang/invoke/MethodHandle" ∧ yX1_laysSayings.cls ≠ "java/lang/invoke/VarHandle" ∧ (parseMethodDescriptor yX1_laysSayings.desc).map (fun d => d.parameters.length) = some 3 := ⟨rfl, nmh_X1_laysSayings⟩
theorem nmh_X1_lessens : yX1_lessens.cls ≠ "java/lang/invoke/MethodHandle" ∧ yX1_lessens.cls ≠ "java/lang/invoke/VarHandle" ∧ (parseMethodDescriptor yX1_lessens.desc).map (fun d => d.parameters.length) = some 2 := by decide +kernel
theorem nmv_X1_lessens : yX1_lessens.cls = "TollOnVowels" ∧ yX1_lessens.cls ≠ "java/lang/invoke/MethodHandle" ∧ yX1_lessens.cls ≠ "java/lang/invoke/VarHandle" ∧ (parseMethodDescriptor yX1_lessens.desc).map (fun d => d.parameters.length) = some 2 := ⟨rfl, nmh_X1_lessens⟩
theorem nmh_X1_goesOn : yX1_goesOn.cls ≠ "java/lang/invoke/MethodHandle" ∧ yX1_goesOn.cls ≠ "java/lang/invoke/VarHandle" ∧ (parseMethodDescriptor yX1_goesOn.desc).map (fun d => d.parameters.length) = some 2 := by decide +kernel
theorem nmv_X1_goesOn : yX1_goesOn.cls = "TollOnVowels" ∧ yX1_goesOn.cls ≠ "java/lang/invoke/MethodHandle" ∧ yX1_goesOn.cls ≠ "java/lang/invoke/VarHandle" ∧ (parseMethodDescriptor yX1_goesOn.desc).map (fun d => d.parameters.length) = some 2 := ⟨rfl, nmh_X1_goesOn⟩
theorem nmh_X1_doneIn : yX1_doneIn.cls ≠ "java/lang/invoke/MethodHandle" ∧ yX1_doneIn.cls ≠ "java/lang/invoke/VarHandle" ∧ (parseMethodDescriptor yX1_doneIn.desc).map (fun d => d.parameters.length) = some 2 := by decide +kernel
theorem nmv_X1_doneIn : yX1_doneIn.cls = "TollOnVowels" ∧ yX1_doneIn.cls ≠ "java/lang/invoke/MethodHandle" ∧ yX1_doneIn.cls ≠ "java/lang/invoke/VarHandle" ∧ (parseMethodDescriptor yX1_doneIn.desc).map (fun d => d.parameters.length) = some 2 := ⟨rfl, nmh_X1_doneIn⟩
theorem nmh_X1_haste : yX1_haste.cls ≠ "java/lang/invoke/MethodHandle" ∧ yX1_haste.cls ≠ "java/lang/invoke/VarHandle" ∧ (parseMethodDescriptor yX1_haste.desc).map (fun d => d.parameters.length) = some 1 := by decide +kernel
theorem nmv_X1_haste : yX1_haste.cls = "TollOnVowels" ∧ yX1_haste.cls ≠ "java/lang/invoke/MethodHandle" ∧ yX1_haste.cls ≠ "java/lang/invoke/VarHandle" ∧ (parseMethodDescriptor yX1_haste.desc).map (fun d => d.parameters.length) = some 1 := ⟨rfl, nmh_X1_haste⟩
theorem nmh_X1_best : yX1_best.cls ≠ "java/lang/invoke/MethodHandle" ∧ yX1_best.cls ≠ "java/lang/invoke/VarHandle" ∧ (parseMethodDescriptor yX1_best.desc).map (fun d => d.parameters.length) = some 1 := by decide +kernel
theorem nmv_X1_best : yX1_best.cls = "TollOnVowels" ∧ yX1_best.cls ≠ "java/lang/invoke/MethodHandle" ∧ yX1_best.cls ≠ "java/lang/invoke/VarHandle" ∧ (parseMethodDescriptor yX1_best.desc).map (fun d => d.parameters.length) = some 1 := ⟨rfl, nmh_X1_best⟩
theorem nmh_X1_costOf : yX1_costOf.cls ≠ "java/lang/invoke/MethodHandle" ∧ yX1_costOf.cls ≠ "java/lang/invoke/VarHandle" ∧ (parseMethodDescriptor yX1_costOf.desc).map (fun d => d.parameters.length) = some 2 := by decide +kernel
theorem nmv_X1_costOf : yX1_costOf.cls = "TollOnVowels" ∧ yX1_costOf.cls ≠ "java/lang/invoke/MethodHandle" ∧ yX1_costOf.cls ≠ "java/lang/invoke/VarHandle" ∧ (parseMethodDescriptor yX1_costOf.desc).map (fun d => d.parameters.length) = some 2 := ⟨rfl, nmh_X1_costOf⟩
theorem nmh_X1_worthOf : yX1_worthOf.cls ≠ "java/lang/invoke/MethodHandle" ∧ yX1_worthOf.cls ≠ "java/lang/invoke/VarHandle" ∧ (parseMethodDescriptor yX1_worthOf.desc).map (fun d => d.parameters.length) = some 1 := by decide +kernel
theorem nmv_X1_worthOf : yX1_worthOf.cls = "TollOnVowels" ∧ yX1_worthOf.cls ≠ "java/lang/invoke/MethodHandle" ∧ yX1_worthOf.cls ≠ "java/lang/invoke/VarHandle" ∧ (parseMethodDescriptor yX1_worthOf.desc).map (fun d => d.parameters.length) = some 1 := ⟨rfl, nmh_X1_worthOf⟩
theorem nmh_X1_takes : yX1_takes.cls ≠ "java/lang/invoke/MethodHandle" ∧ yX1_takes.cls ≠ "java/lang/invoke/VarHandle" ∧ (parseMethodDescriptor yX1_takes.desc).map (fun d => d.parameters.length) = some 2 := by decide +kernel
theorem nmv_X1_takes : yX1_takes.cls = "TollOnVowels" ∧ yX1_takes.cls ≠ "java/lang/invoke/MethodHandle" ∧ yX1_takes.cls ≠ "java/lang/invoke/VarHandle" ∧ (parseMethodDescriptor yX1_takes.desc).map (fun d => d.parameters.length) = some 2 := ⟨rfl, nmh_X1_takes⟩
theorem nmh_X1_comesIn : yX1_comesIn.cls ≠ "java/lang/invoke/MethodHandle" ∧ yX1_comesIn.cls ≠ "java/lang/invoke/VarHandle" ∧ (parseMethodDescriptor yX1_comesIn.desc).map (fun d => d.parameters.length) = some 2 := by decide +kernel
theorem nmv_X1_comesIn : yX1_comesIn.cls = "TollOnVowels" ∧ yX1_comesIn.cls ≠ "java/lang/invoke/MethodHandle" ∧ yX1_comesIn.cls ≠ "java/lang/invoke/VarHandle" ∧ (parseMethodDescriptor yX1_comesIn.desc).map (fun d => d.parameters.length) = some 2 := ⟨rfl, nmh_X1_comesIn⟩
theorem nmh_X1_greed : yX1_greed.cls ≠ "java/lang/invoke/MethodHandle" ∧ yX1_greed.cls ≠ "java/lang/invoke/VarHandle" ∧ (parseMethodDescriptor yX1_greed.desc).map (fun d => d.parameters.length) = some 1 := by decide +kernel
theorem nmv_X1_greed : yX1_greed.cls = "TollOnVowels" ∧ yX1_greed.cls ≠ "java/lang/invoke/MethodHandle" ∧ yX1_greed.cls ≠ "java/lang/invoke/VarHandle" ∧ (parseMethodDescriptor yX1_greed.desc).map (fun d => d.parameters.length) = some 1 := ⟨rfl, nmh_X1_greed⟩
theorem nmh_X1_law : yX1_law.cls ≠ "java/lang/invoke/MethodHandle" ∧ yX1_law.cls ≠ "java/lang/invoke/VarHandle" ∧ (parseMethodDescriptor yX1_law.desc).map (fun d => d.parameters.length) = some 1 := by decide +kernel
theorem nmv_X1_law : yX1_law.cls = "TollOnVowels" ∧ yX1_law.cls ≠ "java/lang/invoke/MethodHandle" ∧ yX1_law.cls ≠ "java/lang/invoke/VarHandle" ∧ (parseMethodDescriptor yX1_law.desc).map (fun d => d.parameters.length) = some 1 := ⟨rfl, nmh_X1_law⟩
theorem nmh_X1_said : yX1_said.cls ≠ "java/lang/invoke/MethodHandle" ∧ yX1_said.cls ≠ "java/lang/invoke/VarHandle" ∧ (parseMethodDescriptor yX1_said.desc).map (fun d => d.parameters.length) = some 0 := by decide +kernel
theorem nmv_X1_said : yX1_said.cls = "TollOnVowels" ∧ yX1_said.cls ≠ "java/lang/invoke/MethodHandle" ∧ yX1_said.cls ≠ "java/lang/invoke/VarHandle" ∧ (parseMethodDescriptor yX1_said.desc).map (fun d => d.parameters.length) = some 0 := ⟨rfl, nmh_X1_said⟩
theorem nmh_X1_saysFrom : yX1_saysFrom.cls ≠ "java/lang/invoke/MethodHandle" ∧ yX1_saysFrom.cls ≠ "java/lang/invoke/VarHandle" ∧ (parseMethodDescriptor yX1_saysFrom.desc).map (fun d => d.parameters.length) = some 3 := by decide +kernel
theorem nmv_X1_saysFrom : yX1_saysFrom.cls = "TollOnVowels" ∧ yX1_saysFrom.cls ≠ "java/lang/invoke/MethodHandle" ∧ yX1_saysFrom.cls ≠ "java/lang/invoke/VarHandle" ∧ (parseMethodDescriptor yX1_saysFrom.desc).map (fun d => d.parameters.length) = some 3 := ⟨rfl, nmh_X1_saysFrom⟩
theorem nmh_X1_isNothingLeft : yX1_isNothingLeft.cls ≠ "java/lang/invoke/MethodHandle" ∧ yX1_isNothingLeft.cls ≠ "java/lang/invoke/VarHandle" ∧ (parseMethodDescriptor yX1_isNothingLeft.desc).map (fun d => d.parameters.length) = some 0 := by decide +kernel
theorem nmv_X1_isNothingLeft : yX1_isNothingLeft.cls = "TollOnVowels" ∧ yX1_isNothingLeft.cls ≠ "java/lang/invoke/MethodHandle" ∧ yX1_isNothingLeft.cls ≠ "java/lang/invoke/VarHandle" ∧ (parseMethodDescriptor yX1_isNothingLeft.desc).map (fun d => d.parameters.length) = some 0 := ⟨rfl, nmh_X1_isNothingLeft⟩
theorem nmh_X1_changesLeft : yX1_changesLeft.cls ≠ "java/lang/invoke/MethodHandle" ∧ yX1_changesLeft.cls ≠ "java/lang/invoke/VarHandle" ∧ (parseMethodDescriptor yX1_changesLeft.desc).map (fun d => d.parameters.length) = some 2 := by decide +kernel
theorem nmv_X1_changesLeft : yX1_changesLeft.cls = "TollOnVowels" ∧ yX1_changesLeft.cls ≠ "java/lang/invoke/MethodHandle" ∧ yX1_changesLeft.cls ≠ "java/lang/invoke/VarHandle" ∧ (parseMethodDescriptor yX1_changesLeft.desc).map (fun d => d.parameters.length) = some 2 := ⟨rfl, nmh_X1_changesLeft⟩
theorem nmh_X1_vowelIn : yX1_vowelIn.cls ≠ "java/lang/invoke/MethodHandle" ∧ yX1_vowelIn.cls ≠ "java/lang/invoke/VarHandle" ∧ (parseMethodDescriptor yX1_vowelIn.desc).map (fun d => d.parameters.length) = some 2 := by decide +kernel
theorem nmv_X1_vowelIn : yX1_vowelIn.cls = "TollOnVowels" ∧ yX1_vowelIn.cls ≠ "java/lang/invoke/MethodHandle" ∧ yX1_vowelIn.cls ≠ "java/lang/invoke/VarHandle" ∧ (parseMethodDescriptor yX1_vowelIn.desc).map (fun d => d.parameters.length) = some 2 := ⟨rfl, nmh_X1_vowelIn⟩
theorem nmh_X1_ask : yX1_ask.cls ≠ "java/lang/invoke/MethodHandle" ∧ yX1_ask.cls ≠ "java/lang/invoke/VarHandle" ∧ (parseMethodDescriptor yX1_ask.desc).map (fun d => d.parameters.length) = some 0 := by decide +kernel
theorem nmv_X1_ask : yX1_ask.cls = "TollOnVowels" ∧ yX1_ask.cls ≠ "java/lang/invoke/MethodHandle" ∧ yX1_ask.cls ≠ "java/lang/invoke/VarHandle" ∧ (parseMethodDescriptor yX1_ask.desc).map (fun d => d.parameters.length) = some 0 := ⟨rfl, nmh_X1_ask⟩
theorem nmh_X1_leftBy : yX1_leftBy.cls ≠ "java/lang/invoke/MethodHandle" ∧ yX1_leftBy.cls ≠ "java/lang/invoke/VarHandle" ∧ (parseMethodDescriptor yX1_leftBy.desc).map (fun d => d.parameters.length) = some 1 := by decide +kernel
theorem nmv_X1_leftBy : yX1_leftBy.cls = "TollOnVowels" ∧ yX1_leftBy.cls ≠ "java/lang/invoke/MethodHandle" ∧ yX1_leftBy.cls ≠ "java/lang/invoke/VarHandle" ∧ (parseMethodDescriptor yX1_leftBy.desc).map (fun d => d.parameters.length) = some 1 := ⟨rfl, nmh_X1_leftBy⟩
theorem nmh_X1_years : yX1_years.cls ≠ "java/lang/invoke/MethodHandle" ∧ yX1_years.cls ≠ "java/lang/invoke/VarHandle" ∧ (parseMethodDescriptor yX1_years.desc).map (fun d => d.parameters.length) = some 2 := by decide +kernel
theorem nmv_X1_years : yX1_years.cls = "TollOnVowels" ∧ yX1_years.cls ≠ "java/lang/invoke/MethodHandle" ∧ yX1_years.cls ≠ "java/lang/invoke/VarHandle" ∧ (parseMethodDescriptor yX1_years.desc).map (fun d => d.parameters.length) = some 2 := ⟨rfl, nmh_X1_years⟩
theorem nmh_X1_draws : yX1_draws.cls ≠ "java/lang/invoke/MethodHandle" ∧ yX1_draws.cls ≠ "java/lang/invoke/VarHandle" ∧ (parseMethodDescriptor yX1_draws.desc).map (fun d => d.parameters.length) = some 1 := by decide +kernel
theorem nmv_X1_draws : yX1_draws.cls = "TollOnVowels" ∧ yX1_draws.cls ≠ "java/lang/invoke/MethodHandle" ∧ yX1_draws.cls ≠ "java/lang/invoke/VarHandle" ∧ (parseMethodDescriptor yX1_draws.desc).map (fun d => d.parameters.length) = some 1 := ⟨rfl, nmh_X1_draws⟩
theorem nmh_X1_keep : yX1_keep.cls ≠ "java/lang/invoke/MethodHandle" ∧ yX1_keep.cls ≠ "java/lang/invoke/VarHandle" ∧ (parseMethodDescriptor yX1_keep.desc).map (fun d => d.parameters.length) = some 1 := by decide +kernel
theorem nmv_X1_keep : yX1_keep.cls = "TollOnVowels" ∧ yX1_keep.cls ≠ "java/lang/invoke/MethodHandle" ∧ yX1_keep.cls ≠ "java/lang/invoke/VarHandle" ∧ (parseMethodDescriptor yX1_keep.desc).map (fun d => d.parameters.length) = some 1 := ⟨rfl, nmh_X1_keep⟩
theorem nmh_X1_again : yX1_again.cls ≠ "java/lang/invoke/MethodHandle" ∧ yX1_again.cls ≠ "java/lang/invoke/VarHandle" ∧ (parseMethodDescriptor yX1_again.desc).map (fun d => d.parameters.length) = some 1 := by decide +kernel
theorem nmv_X1_again : yX1_again.cls = "TollOnVowels" ∧ yX1_again.cls ≠ "java/lang/invoke/MethodHandle" ∧ yX1_again.cls ≠ "java/lang/invoke/VarHandle" ∧ (parseMethodDescriptor yX1_again.desc).map (fun d => d.parameters.length) = some 1 := ⟨rfl, nmh_X1_again⟩
theorem nmh_X1_count : yX1_count.cls ≠ "java/lang/invoke/MethodHandle" ∧ yX1_count.cls ≠ "java/lang/invoke/VarHandle" ∧ (parseMethodDescriptor yX1_count.desc).map (fun d => d.parameters.length) = some 1 := by decide +kernel
theorem nmv_X1_count : yX1_count.cls = "TollOnVowels" ∧ yX1_count.cls ≠ "java/lang/invoke/MethodHandle" ∧ yX1_count.cls ≠ "java/lang/invoke/VarHandle" ∧ (parseMethodDescriptor yX1_count.desc).map (fun d => d.parameters.length) = some 1 := ⟨rfl, nmh_X1_count⟩
theorem nmh_X1_purses : yX1_purses.cls ≠ "java/lang/invoke/MethodHandle" ∧ yX1_purses.cls ≠ "java/lang/invoke/VarHandle" ∧ (parseMethodDescriptor yX1_purses.desc).map (fun d => d.parameters.length) = some 0 := by decide +kernel
theorem nmv_X1_purses : yX1_purses.cls = "TollOnVowels" ∧ yX1_purses.cls ≠ "java/lang/invoke/MethodHandle" ∧ yX1_purses.cls ≠ "java/lang/invoke/VarHandle" ∧ (parseMethodDescriptor yX1_purses.desc).map (fun d => d.parameters.length) = some 0 := ⟨rfl, nmh_X1_purses⟩
theorem nmh_X1_compounds : yX1_compounds.cls ≠ "java/lang/invoke/MethodHandle" ∧ yX1_compounds.cls ≠ "java/lang/invoke/VarHandle" ∧ (parseMethodDescriptor yX1_compounds.desc).map (fun d => d.parameters.length) = some 0 := by decide +kernel
theorem nmv_X1_compounds : yX1_compounds.cls = "TollOnVowels" ∧ yX1_compounds.cls ≠ "java/lang/invoke/MethodHandle" ∧ yX1_compounds.cls ≠ "java/lang/invoke/VarHandle" ∧ (parseMethodDescriptor yX1_compounds.desc).map (fun d => d.parameters.length) = some 0 := ⟨rfl, nmh_X1_compounds⟩
theorem nmh_X1_word : yX1_word.cls ≠ "java/lang/invoke/MethodHandle" ∧ yX1_word.cls ≠ "java/lang/invoke/VarHandle" ∧ (parseMethodDescriptor yX1_word.desc).map (fun d => d.parameters.length) = some 2 := by decide +kernel
theorem nmv_X1_word : yX1_word.cls = "TollOnVowels" ∧ yX1_word.cls ≠ "java/lang/invoke/MethodHandle" ∧ yX1_word.cls ≠ "java/lang/invoke/VarHandle" ∧ (parseMethodDescriptor yX1_word.desc).map (fun d => d.parameters.length) = some 2 := ⟨rfl, nmh_X1_word⟩
theorem nmh_X1_traveller : yX1_traveller.cls ≠ "java/lang/invoke/MethodHandle" ∧ yX1_traveller.cls ≠ "java/lang/invoke/VarHandle" ∧ (parseMethodDescriptor yX1_traveller.desc).map (fun d => d.parameters.length) = some 2 := by decide +kernel
theorem nmv_X1_traveller : yX1_traveller.cls = "TollOnVowels" ∧ yX1_traveller.cls ≠ "java/lang/invoke/MethodHandle" ∧ yX1_traveller.cls ≠ "java/lang/invoke/VarHandle" ∧ (parseMethodDescriptor yX1_traveller.desc).map (fun d => d.parameters.length) = some 2 := ⟨rfl, nmh_X1_traveller⟩
theorem nmh_X1_errand : yX1_errand.cls ≠ "java/lang/invoke/MethodHandle" ∧ yX1_errand.cls ≠ "java/lang/invoke/VarHandle" ∧ (parseMethodDescriptor yX1_errand.desc).map (fun d => d.parameters.length) = some 2 := by decide +kernel
theorem nmv_X1_errand : yX1_errand.cls = "TollOnVowels" ∧ yX1_errand.cls ≠ "java/lang/invoke/MethodHandle" ∧ yX1_errand.cls ≠ "java/lang/invoke/VarHandle" ∧ (parseMethodDescriptor yX1_errand.desc).map (fun d => d.parameters.length) = some 2 := ⟨rfl, nmh_X1_errand⟩
theorem nmh_X1_book : yX1_book.cls ≠ "java/lang/invoke/MethodHandle" ∧ yX1_book.cls ≠ "java/lang/invoke/VarHandle" ∧ (parseMethodDescriptor yX1_book.desc).map (fun d => d.parameters.length) = some 2 := by decide +kernel
theorem nmv_X1_book : yX1_book.cls = "TollOnVowels" ∧ yX1_book.cls ≠ "java/lang/invoke/MethodHandle" ∧ yX1_book.cls ≠ "java/lang/invoke/VarHandle" ∧ (parseMethodDescriptor yX1_book.desc).map (fun d => d.parameters.length) = some 2 := ⟨rfl, nmh_X1_book⟩
theorem nmh_X1_row : yX1_row.cls ≠ "java/lang/invoke/MethodHandle" ∧ yX1_row.cls ≠ "java/lang/invoke/VarHandle" ∧ (parseMethodDescriptor yX1_row.desc).map (fun d => d.parameters.length) = some 1 := by decide +kernel
theorem nmv_X1_row : yX1_row.cls = "TollOnVowels" ∧ yX1_row.cls ≠ "java/lang/invoke/MethodHandle" ∧ yX1_row.cls ≠ "java/lang/invoke/VarHandle" ∧ (parseMethodDescriptor yX1_row.desc).map (fun d => d.parameters.length) = some 1 := ⟨rfl, nmh_X1_row⟩
theorem nmh_X2_init : yX2_init.cls ≠ "java/lang/invoke/MethodHandle" ∧ yX2_init.cls ≠ "java/lang/invoke/VarHandle" ∧ (parseMethodDescriptor yX2_init.desc).map (fun d => d.parameters.length) = some 0 := by decide +kernel
theorem nmh_X2_becomes : yX2_becomes.cls ≠ "java/lang/invoke/MethodHandle" ∧ yX2_becomes.cls ≠ "java/lang/invoke/VarHandle" ∧ (parseMethodDescriptor yX2_becomes.desc).map (fun d => d.parameters.length) = some 1 := by decide +kernel
theorem nmv_X2_becomes : yX2_becomes.cls = "TollOnVowels$Road" ∧ yX2_becomes.cls ≠ "java/lang/invoke/MethodHandle" ∧ yX2_becomes.cls ≠ "java/lang/invoke/VarHandle" ∧ (parseMethodDescriptor yX2_becomes.desc).map (fun d => d.parameters.length) = some 1 := ⟨rfl, nmh_X2_becomes⟩
theorem nmh_X2_pays : yX2_pays.cls ≠ "java/lang/invoke/MethodHandle" ∧ yX2_pays.cls ≠ "java/lang/invoke/VarHandle" ∧ (parseMethodDescriptor yX2_pays.desc).map (fun d => d.parameters.length) = some 2 := by decide +kernel
theorem nmv_X2_pays : yX2_pays.cls = "TollOnVowels$Road" ∧ yX2_pays.cls ≠ "java/lang/invoke/MethodHandle" ∧ yX2_pays.cls ≠ "java/lang/invoke/VarHandle" ∧ (parseMethodDescriptor yX2_pays.desc).map (fun d => d.parameters.length) = some 2 := ⟨rfl, nmh_X2_pays⟩
theorem nmh_X2_hears : yX2_hears.cls ≠ "java/lang/invoke/MethodHandle" ∧ yX2_hears.cls ≠ "java/lang/invoke/VarHandle" ∧ (parseMethodDescriptor yX2_hears.desc).map (fun d => d.parameters.length) = some 2 := by decide +kernel
theorem nmv_X2_hears : yX2_hears.cls = "TollOnVowels$Road" ∧ yX2_hears.cls ≠ "java/lang/invoke/MethodHandle" ∧ yX2_hears.cls ≠ "java/lang/invoke/VarHandle" ∧ (parseMethodDescriptor yX2_hears.desc).map (fun d => d.parameters.length) = some 2 := ⟨rfl, nmh_X2_hears⟩
theorem nmh_X2_heardInAll : yX2_heardInAll.cls ≠ "java/lang/invoke/MethodHandle" ∧ yX2_heardInAll.cls ≠ "java/lang/invoke/VarHandle" ∧ (parseMethodDescriptor yX2_heardInAll.desc).map (fun d => d.parameters.length) = some 0 := by decide +kernel
theorem nmv_X2_heardInAll : yX2_heardInAll.cls = "TollOnVowels$Road" ∧ yX2_heardInAll.cls ≠ "java/lang/invoke/MethodHandle" ∧ yX2_heardInAll.cls ≠ "java/lang/invoke/VarHandle" ∧ (parseMethodDescriptor yX2_heardInAll.desc).map (fun d => d.parameters.length) = some 0 := ⟨rfl, nmh_X2_heardInAll⟩
theorem nmh_X3_init : yX3_init.cls ≠ "java/lang/invoke/MethodHandle" ∧ yX3_init.cls ≠ "java/lang/invoke/VarHandle" ∧ (parseMethodDescriptor yX3_init.desc).map (fun d => d.parameters.length) = some 0 := by decide +kernel
theorem nmh_X3_thrown : yX3_thrown.cls ≠ "java/lang/invoke/MethodHandle" ∧ yX3_thrown.cls ≠ "java/lang/invoke/VarHandle" ∧ (parseMethodDescriptor yX3_thrown.desc).map (fun d => d.parameters.length) = some 0 := by decide +kernel
theorem nmv_X3_thrown : yX3_thrown.cls = "TollOnVowelsModel" ∧ yX3_thrown.cls ≠ "java/lang/invoke/MethodHandle" ∧ yX3_thrown.cls ≠ "java/lang/invoke/VarHandle" ∧ (parseMethodDescriptor yX3_thrown.desc).map (fun d => d.parameters.length) = some 0 := ⟨rfl, nmh_X3_thrown⟩
theorem nmh_X3_sign : yX3_sign.cls ≠ "java/lang/invoke/MethodHandle" ∧ yX3_sign.cls ≠ "java/lang/invoke/VarHandle" ∧ (parseMethodDescriptor yX3_sign.desc).map (fun d => d.parameters.length) = some 1 := by decide +kernel
theorem nmv_X3_sign : yX3_sign.cls = "TollOnVowelsModel" ∧ yX3_sign.cls ≠ "java/lang/invoke/MethodHandle" ∧ yX3_sign.cls ≠ "java/lang/invoke/VarHandle" ∧ (parseMethodDescriptor yX3_sign.desc).map (fun d => d.parameters.length) = some 1 := ⟨rfl, nmh_X3_sign⟩
theorem nmh_X3_end : yX3_end.cls ≠ "java/lang/invoke/MethodHandle" ∧ yX3_end.cls ≠ "java/lang/invoke/VarHandle" ∧ (parseMethodDescriptor yX3_end.desc).map (fun d => d.parameters.length) = some 1 := by decide +kernel
theorem nmv_X3_end : yX3_end.cls = "TollOnVowelsModel" ∧ yX3_end.cls ≠ "java/lang/invoke/MethodHandle" ∧ yX3_end.cls ≠ "java/lang/invoke/VarHandle" ∧ (parseMethodDescriptor yX3_end.desc).map (fun d => d.parameters.length) = some 1 := ⟨rfl, nmh_X3_end⟩
theorem nmh_X3_in : yX3_in.cls ≠ "java/lang/invoke/MethodHandle" ∧ yX3_in.cls ≠ "java/lang/invoke/VarHandle" ∧ (parseMethodDescriptor yX3_in.desc).map (fun d => d.parameters.length) = some 3 := by decide +kernel
theorem nmh_X3_road : yX3_road.cls ≠ "java/lang/invoke/MethodHandle" ∧ yX3_road.cls ≠ "java/lang/invoke/VarHandle" ∧ (parseMethodDescriptor yX3_road.desc).map (fun d => d.parameters.length) = some 1 := by decide +kernel
theorem nmv_X3_road : yX3_road.cls = "TollOnVowelsModel" ∧ yX3_road.cls ≠ "java/lang/invoke/MethodHandle" ∧ yX3_road.cls ≠ "java/lang/invoke/VarHandle" ∧ (parseMethodDescriptor yX3_road.desc).map (fun d => d.parameters.length) = some 1 := ⟨rfl, nmh_X3_road⟩
theorem nmh_X3_words : yX3_words.cls ≠ "java/lang/invoke/MethodHandle" ∧ yX3_words.cls ≠ "java/lang/invoke/VarHandle" ∧ (parseMethodDescriptor yX3_words.desc).map (fun d => d.parameters.length) = some 0 := by decide +kernel
theorem nmv_X3_words : yX3_words.cls = "TollOnVowelsModel" ∧ yX3_words.cls ≠ "java/lang/invoke/MethodHandle" ∧ yX3_words.cls ≠ "java/lang/invoke/VarHandle" ∧ (parseMethodDescriptor yX3_words.desc).map (fun d => d.parameters.length) = some 0 := ⟨rfl, nmh_X3_words⟩
theorem nmh_X3_beginText : yX3_beginText.cls ≠ "java/lang/invoke/MethodHandle" ∧ yX3_beginText.cls ≠ "java/lang/invoke/VarHandle" ∧ (parseMethodDescriptor yX3_beginText.desc).map (fun d => d.parameters.length) = some 1 := by decide +kernel
theorem nmv_X3_beginText : yX3_beginText.cls = "TollOnVowelsModel" ∧ yX3_beginText.cls ≠ "java/lang/invoke/MethodHandle" ∧ yX3_beginText.cls ≠ "java/lang/invoke/VarHandle" ∧ (parseMethodDescriptor yX3_beginText.desc).map (fun d => d.parameters.length) = some 1 := ⟨rfl, nmh_X3_beginText⟩
theorem nmh_X3_begin : yX3_begin.cls ≠ "java/lang/invoke/MethodHandle" ∧ yX3_begin.cls ≠ "java/lang/invoke/VarHandle" ∧ (parseMethodDescriptor yX3_begin.desc).map (fun d => d.parameters.length) = some 3 := by decide +kernel
theorem nmv_X3_begin : yX3_begin.cls = "TollOnVowelsModel" ∧ yX3_begin.cls ≠ "java/lang/invoke/MethodHandle" ∧ yX3_begin.cls ≠ "java/lang/invoke/VarHandle" ∧ (parseMethodDescriptor yX3_begin.desc).map (fun d => d.parameters.length) = some 3 := ⟨rfl, nmh_X3_begin⟩
theorem nmh_X3_fine : yX3_fine.cls ≠ "java/lang/invoke/MethodHandle" ∧ yX3_fine.cls ≠ "java/lang/invoke/VarHandle" ∧ (parseMethodDescriptor yX3_fine.desc).map (fun d => d.parameters.length) = some 0 := by decide +kernel
theorem nmv_X3_fine : yX3_fine.cls = "TollOnVowelsModel" ∧ yX3_fine.cls ≠ "java/lang/invoke/MethodHandle" ∧ yX3_fine.cls ≠ "java/lang/invoke/VarHandle" ∧ (parseMethodDescriptor yX3_fine.desc).map (fun d => d.parameters.length) = some 0 := ⟨rfl, nmh_X3_fine⟩
theorem nmh_X3_fault : yX3_fault.cls ≠ "java/lang/invoke/MethodHandle" ∧ yX3_fault.cls ≠ "java/lang/invoke/VarHandle" ∧ (parseMethodDescriptor yX3_fault.desc).map (fun d => d.parameters.length) = some 1 := by decide +kernel
theorem nmv_X3_fault : yX3_fault.cls = "TollOnVowelsModel" ∧ yX3_fault.cls ≠ "java/lang/invoke/MethodHandle" ∧ yX3_fault.cls ≠ "java/lang/invoke/VarHandle" ∧ (parseMethodDescriptor yX3_fault.desc).map (fun d => d.parameters.length) = some 1 := ⟨rfl, nmh_X3_fault⟩
theorem nmh_X3_readWord : yX3_readWord.cls ≠ "java/lang/invoke/MethodHandle" ∧ yX3_readWord.cls ≠ "java/lang/invoke/VarHandle" ∧ (parseMethodDescriptor yX3_readWord.desc).map (fun d => d.parameters.length) = some 1 := by decide +kernel
theorem nmv_X3_readWord : yX3_readWord.cls = "TollOnVowelsModel" ∧ yX3_readWord.cls ≠ "java/lang/invoke/MethodHandle" ∧ yX3_readWord.cls ≠ "java/lang/invoke/VarHandle" ∧ (parseMethodDescriptor yX3_readWord.desc).map (fun d => d.parameters.length) = some 1 := ⟨rfl, nmh_X3_readWord⟩
theorem nmh_X3_oneOf : yX3_oneOf.cls ≠ "java/lang/invoke/MethodHandle" ∧ yX3_oneOf.cls ≠ "java/lang/invoke/VarHandle" ∧ (parseMethodDescriptor yX3_oneOf.desc).map (fun d => d.parameters.length) = some 2 := by decide +kernel
theorem nmv_X3_oneOf : yX3_oneOf.cls = "TollOnVowelsModel" ∧ yX3_oneOf.cls ≠ "java/lang/invoke/MethodHandle" ∧ yX3_oneOf.cls ≠ "java/lang/invoke/VarHandle" ∧ (parseMethodDescriptor yX3_oneOf.desc).map (fun d => d.parameters.length) = some 2 := ⟨rfl, nmh_X3_oneOf⟩
theorem nmh_X3_here : yX3_here.cls ≠ "java/lang/invoke/MethodHandle" ∧ yX3_here.cls ≠ "java/lang/invoke/VarHandle" ∧ (parseMethodDescriptor yX3_here.desc).map (fun d => d.parameters.length) = some 0 := by decide +kernel
theorem nmv_X3_here : yX3_here.cls = "TollOnVowelsModel" ∧ yX3_here.cls ≠ "java/lang/invoke/MethodHandle" ∧ yX3_here.cls ≠ "java/lang/invoke/VarHandle" ∧ (parseMethodDescriptor yX3_here.desc).map (fun d => d.parameters.length) = some 0 := ⟨rfl, nmh_X3_here⟩
theorem nmh_X3_passes : yX3_passes.cls ≠ "java/lang/invoke/MethodHandle" ∧ yX3_passes.cls ≠ "java/lang/invoke/VarHandle" ∧ (parseMethodDescriptor yX3_passes.desc).map (fun d => d.parameters.length) = some 1 := by decide +kernel
theorem nmv_X3_passes : yX3_passes.cls = "TollOnVowelsModel" ∧ yX3_passes.cls ≠ "java/lang/invoke/MethodHandle" ∧ yX3_passes.cls ≠ "java/lang/invoke/VarHandle" ∧ (parseMethodDescriptor yX3_passes.desc).map (fun d => d.parameters.length) = some 1 := ⟨rfl, nmh_X3_passes⟩
theorem nmh_X3_wasRight : yX3_wasRight.cls ≠ "java/lang/invoke/MethodHandle" ∧ yX3_wasRight.cls ≠ "java/lang/invoke/VarHandle" ∧ (parseMethodDescriptor yX3_wasRight.desc).map (fun d => d.parameters.length) = some 0 := by decide +kernel
theorem nmv_X3_wasRight : yX3_wasRight.cls = "TollOnVowelsModel" ∧ yX3_wasRight.cls ≠ "java/lang/invoke/MethodHandle" ∧ yX3_wasRight.cls ≠ "java/lang/invoke/VarHandle" ∧ (parseMethodDescriptor yX3_wasRight.desc).map (fun d => d.parameters.length) = some 0 := ⟨rfl, nmh_X3_wasRight⟩
theorem nmh_X3_travellers : yX3_travellers.cls ≠ "java/lang/invoke/MethodHandle" ∧ yX3_travellers.cls ≠ "java/lang/invoke/VarHandle" ∧ (parseMethodDescriptor yX3_travellers.desc).map (fun d => d.parameters.length) = some 0 := by decide +kernel
theorem nmv_X3_travellers : yX3_travellers.cls = "TollOnVowelsModel" ∧ yX3_travellers.cls ≠ "java/lang/invoke/MethodHandle" ∧ yX3_travellers.cls ≠ "java/lang/invoke/VarHandle" ∧ (parseMethodDescriptor yX3_travellers.desc).map (fun d => d.parameters.length) = some 0 := ⟨rfl, nmh_X3_travellers⟩
theorem nmh_X3_need : yX3_need.cls ≠ "java/lang/invoke/MethodHandle" ∧ yX3_need.cls ≠ "java/lang/invoke/VarHandle" ∧ (parseMethodDescriptor yX3_need.desc).map (fun d => d.parameters.length) = some 1 := by decide +kernel
theorem nmv_X3_need : yX3_need.cls = "TollOnVowelsModel" ∧ yX3_need.cls ≠ "java/lang/invoke/MethodHandle" ∧ yX3_need.cls ≠ "java/lang/invoke/VarHandle" ∧ (parseMethodDescriptor yX3_need.desc).map (fun d => d.parameters.length) = some 1 := ⟨rfl, nmh_X3_need⟩
theorem nmh_X3_number : yX3_number.cls ≠ "java/lang/invoke/MethodHandle" ∧ yX3_number.cls ≠ "java/lang/invoke/VarHandle" ∧ (parseMethodDescriptor yX3_number.desc).map (fun d => d.parameters.length) = some 1 := by decide +kernel
theorem nmv_X3_number : yX3_number.cls = "TollOnVowelsModel" ∧ yX3_number.cls ≠ "java/lang/invoke/MethodHandle" ∧ yX3_number.cls ≠ "java/lang/invoke/VarHandle" ∧ (parseMethodDescriptor yX3_number.desc).map (fun d => d.parameters.length) = some 1 := ⟨rfl, nmh_X3_number⟩
theorem nmh_X3_errands : yX3_errands.cls ≠ "java/lang/invoke/MethodHandle" ∧ yX3_errands.cls ≠ "java/lang/invoke/VarHandle" ∧ (parseMethodDescriptor yX3_errands.desc).map (fun d => d.parameters.length) = some 0 := by decide +kernel
theorem nmv_X3_errands : yX3_errands.cls = "TollOnVowelsModel" ∧ yX3_errands.cls ≠ "java/lang/invoke/MethodHandle" ∧ yX3_errands.cls ≠ "java/lang/invoke/VarHandle" ∧ (parseMethodDescriptor yX3_errands.desc).map (fun d => d.parameters.length) = some 0 := ⟨rfl, nmh_X3_errands⟩
theorem nmh_X3_rule : yX3_rule.cls ≠ "java/lang/invoke/MethodHandle" ∧ yX3_rule.cls ≠ "java/lang/invoke/VarHandle" ∧ (parseMethodDescriptor yX3_rule.desc).map (fun d => d.parameters.length) = some 0 := by decide +kernel
theorem nmv_X3_rule : yX3_rule.cls = "TollOnVowelsModel" ∧ yX3_rule.cls ≠ "java/lang/invoke/MethodHandle" ∧ yX3_rule.cls ≠ "java/lang/invoke/VarHandle" ∧ (parseMethodDescriptor yX3_rule.desc).map (fun d => d.parameters.length) = some 0 := ⟨rfl, nmh_X3_rule⟩
theorem nmh_X3_readRule : yX3_readRule.cls ≠ "java/lang/invoke/MethodHandle" ∧ yX3_readRule.cls ≠ "java/lang/invoke/VarHandle" ∧ (parseMethodDescriptor yX3_readRule.desc).map (fun d => d.parameters.length) = some 0 := by decide +kernel
theorem nmv_X3_readRule : yX3_readRule.cls = "TollOnVowelsModel" ∧ yX3_readRule.cls ≠ "java/lang/invoke/MethodHandle" ∧ yX3_readRule.cls ≠ "java/lang/invoke/VarHandle" ∧ (parseMethodDescriptor yX3_readRule.desc).map (fun d => d.parameters.length) = some 0 := ⟨rfl, nmh_X3_readRule⟩
theorem nmh_X3_held : yX3_held.cls ≠ "java/lang/invoke/MethodHandle" ∧ yX3_held.cls ≠ "java/lang/invoke/VarHandle" ∧ (parseMethodDescriptor yX3_held.desc).map (fun d => d.parameters.length) = some 1 := by decide +kernel
theorem nmv_X3_held : yX3_held.cls = "TollOnVowelsModel" ∧ yX3_held.cls ≠ "java/lang/invoke/MethodHandle" ∧ yX3_held.cls ≠ "java/lang/invoke/VarHandle" ∧ (parseMethodDescriptor yX3_held.desc).map (fun d => d.parameters.length) = some 1 := ⟨rfl, nmh_X3_held⟩
theorem nmh_X3_sum : yX3_sum.cls ≠ "java/lang/invoke/MethodHandle" ∧ yX3_sum.cls ≠ "java/lang/invoke/VarHandle" ∧ (parseMethodDescriptor yX3_sum.desc).map (fun d => d.parameters.length) = some 1 := by decide +kernel
theorem nmv_X3_sum : yX3_sum.cls = "TollOnVowelsModel" ∧ yX3_sum.cls ≠ "java/lang/invoke/MethodHandle" ∧ yX3_sum.cls ≠ "java/lang/invoke/VarHandle" ∧ (parseMethodDescriptor yX3_sum.desc).map (fun d => d.parameters.length) = some 1 := ⟨rfl, nmh_X3_sum⟩
theorem nmh_X3_product : yX3_product.cls ≠ "java/lang/invoke/MethodHandle" ∧ yX3_product.cls ≠ "java/lang/invoke/VarHandle" ∧ (parseMethodDescriptor yX3_product.desc).map (fun d => d.parameters.length) = some 1 := by decide +kernel
theorem nmv_X3_product : yX3_product.cls = "TollOnVowelsModel" ∧ yX3_product.cls ≠ "java/lang/invoke/MethodHandle" ∧ yX3_product.cls ≠ "java/lang/invoke/VarHandle" ∧ (parseMethodDescriptor yX3_product.desc).map (fun d => d.parameters.length) = some 1 := ⟨rfl, nmh_X3_product⟩
theorem nmh_X3_thing : yX3_thing.cls ≠ "java/lang/invoke/MethodHandle" ∧ yX3_thing.cls ≠ "java/lang/invoke/VarHandle" ∧ (parseMethodDescriptor yX3_thing.desc).map (fun d => d.parameters.length) = some 1 := by decide +kernel
theorem nmv_X3_thing : yX3_thing.cls = "TollOnVowelsModel" ∧ yX3_thing.cls ≠ "java/lang/invoke/MethodHandle" ∧ yX3_thing.cls ≠ "java/lang/invoke/VarHandle" ∧ (parseMethodDescriptor yX3_thing.desc).map (fun d => d.parameters.length) = some 1 := ⟨rfl, nmh_X3_thing⟩
theorem nmh_X3_letterOf : yX3_letterOf.cls ≠ "java/lang/invoke/MethodHandle" ∧ yX3_letterOf.cls ≠ "java/lang/invoke/VarHandle" ∧ (parseMethodDescriptor yX3_letterOf.desc).map (fun d => d.parameters.length) = some 1 := by decide +kernel
theorem nmh_X3_word : yX3_word.cls ≠ "java/lang/invoke/MethodHandle" ∧ yX3_word.cls ≠ "java/lang/invoke/VarHandle" ∧ (parseMethodDescriptor yX3_word.desc).map (fun d => d.parameters.length) = some 2 := by decide +kernel
theorem nmv_X3_word : yX3_word.cls = "TollOnVowelsModel" ∧ yX3_word.cls ≠ "java/lang/invoke/MethodHandle" ∧ yX3_word.cls ≠ "java/lang/invoke/VarHandle" ∧ (parseMethodDescriptor yX3_word.desc).map (fun d => d.parameters.length) = some 2 := ⟨rfl, nmh_X3_word⟩
theorem nmh_X3_isWord : yX3_isWord.cls ≠ "java/lang/invoke/MethodHandle" ∧ yX3_isWord.cls ≠ "java/lang/invoke/VarHandle" ∧ (parseMethodDescriptor yX3_isWord.desc).map (fun d => d.parameters.length) = some 1 := by decide +kernel
theorem nmv_X3_isWord : yX3_isWord.cls = "TollOnVowelsModel" ∧ yX3_isWord.cls ≠ "java/lang/invoke/MethodHandle" ∧ yX3_isWord.cls ≠ "java/lang/invoke/VarHandle" ∧ (parseMethodDescriptor yX3_isWord.desc).map (fun d => d.parameters.length) = some 1 := ⟨rfl, nmh_X3_isWord⟩
theorem nmh_X3_lost : yX3_lost.cls ≠ "java/lang/invoke/MethodHandle" ∧ yX3_lost.cls ≠ "java/lang/invoke/VarHandle" ∧ (parseMethodDescriptor yX3_lost.desc).map (fun d => d.parameters.length) = some 0 := by decide +kernel
theorem nmv_X3_lost : yX3_lost.cls = "TollOnVowelsModel" ∧ yX3_lost.cls ≠ "java/lang/invoke/MethodHandle" ∧ yX3_lost.cls ≠ "java/lang/invoke/VarHandle" ∧ (parseMethodDescriptor yX3_lost.desc).map (fun d => d.parameters.length) = some 0 := ⟨rfl, nmh_X3_lost⟩
theorem nmh_X3_vowelsIn : yX3_vowelsIn.cls ≠ "java/lang/invoke/MethodHandle" ∧ yX3_vowelsIn.cls ≠ "java/lang/invoke/VarHandle" ∧ (parseMethodDescriptor yX3_vowelsIn.desc).map (fun d => d.parameters.length) = some 1 := by decide +kernel
theorem nmv_X3_vowelsIn : yX3_vowelsIn.cls = "TollOnVowelsModel" ∧ yX3_vowelsIn.cls ≠ "java/lang/invoke/MethodHandle" ∧ yX3_vowelsIn.cls ≠ "java/lang/invoke/VarHandle" ∧ (parseMethodDescriptor yX3_vowelsIn.desc).map (fun d => d.parameters.length) = some 1 := ⟨rfl, nmh_X3_vowelsIn⟩
theorem nmh_X3_often : yX3_often.cls ≠ "java/lang/invoke/MethodHandle" ∧ yX3_often.cls ≠ "java/lang/invoke/VarHandle" ∧ (parseMethodDescriptor yX3_often.desc).map (fun d => d.parameters.length) = some 2 := by decide +kernel
theorem nmv_X3_often : yX3_often.cls = "TollOnVowelsModel" ∧ yX3_often.cls ≠ "java/lang/invoke/MethodHandle" ∧ yX3_often.cls ≠ "java/lang/invoke/VarHandle" ∧ (parseMethodDescriptor yX3_often.desc).map (fun d => d.parameters.length) = some 2 := ⟨rfl, nmh_X3_often⟩
theorem nmh_X3_letter : yX3_letter.cls ≠ "java/lang/invoke/MethodHandle" ∧ yX3_letter.cls ≠ "java/lang/invoke/VarHandle" ∧ (parseMethodDescriptor yX3_letter.desc).map (fun d => d.parameters.length) = some 2 := by decide +kernel
theorem nmv_X3_letter : yX3_letter.cls = "TollOnVowelsModel" ∧ yX3_letter.cls ≠ "java/lang/invoke/MethodHandle" ∧ yX3_letter.cls ≠ "java/lang/invoke/VarHandle" ∧ (parseMethodDescriptor yX3_letter.desc).map (fun d => d.parameters.length) = some 2 := ⟨rfl, nmh_X3_letter⟩
theorem nmh_X3_vowelOf : yX3_vowelOf.cls ≠ "java/lang/invoke/MethodHandle" ∧ yX3_vowelOf.cls ≠ "java/lang/invoke/VarHandle" ∧ (parseMethodDescriptor yX3_vowelOf.desc).map (fun d => d.parameters.length) = some 1 := by decide +kernel
theorem nmh_X3_traveller : yX3_traveller.cls ≠ "java/lang/invoke/MethodHandle" ∧ yX3_traveller.cls ≠ "java/lang/invoke/VarHandle" ∧ (parseMethodDescriptor yX3_traveller.desc).map (fun d => d.parameters.length) = some 2 := by decide +kernel
theorem nmv_X3_traveller : yX3_traveller.cls = "TollOnVowelsModel" ∧ yX3_traveller.cls ≠ "java/lang/invoke/MethodHandle" ∧ yX3_traveller.cls ≠ "java/lang/invoke/VarHandle" ∧ (parseMethodDescriptor yX3_traveller.desc).map (fun d => d.parameters.length) = some 2 := ⟨rfl, nmh_X3_traveller⟩
theorem nmh_X3_isOne : yX3_isOne.cls ≠ "java/lang/invoke/MethodHandle" ∧ yX3_isOne.cls ≠ "java/lang/invoke/VarHandle" ∧ (parseMethodDescriptor yX3_isOne.desc).map (fun d => d.parameters.length) = some 1 := by decide +kernel
theorem nmv_X3_isOne : yX3_isOne.cls = "TollOnVowelsModel" ∧ yX3_isOne.cls ≠ "java/lang/invoke/MethodHandle" ∧ yX3_isOne.cls ≠ "java/lang/invoke/VarHandle" ∧ (parseMethodDescriptor yX3_isOne.desc).map (fun d => d.parameters.length) = some 1 := ⟨rfl, nmh_X3_isOne⟩
theorem nmh_X3_openOf : yX3_openOf.cls ≠ "java/lang/invoke/MethodHandle" ∧ yX3_openOf.cls ≠ "java/lang/invoke/VarHandle" ∧ (parseMethodDescriptor yX3_openOf.desc).map (fun d => d.parameters.length) = some 1 := by decide +kernel
theorem nmv_X3_openOf : yX3_openOf.cls = "TollOnVowelsModel" ∧ yX3_openOf.cls ≠ "java/lang/invoke/MethodHandle" ∧ yX3_openOf.cls ≠ "java/lang/invoke/VarHandle" ∧ (parseMethodDescriptor yX3_openOf.desc).map (fun d => d.parameters.length) = some 1 := ⟨rfl, nmh_X3_openOf⟩
theorem nmh_X3_field : yX3_field.cls ≠ "java/lang/invoke/MethodHandle" ∧ yX3_field.cls ≠ "java/lang/invoke/VarHandle" ∧ (parseMethodDescriptor yX3_field.desc).map (fun d => d.parameters.length) = some 2 := by decide +kernel
theorem nmv_X3_field : yX3_field.cls = "TollOnVowelsModel" ∧ yX3_field.cls ≠ "java/lang/invoke/MethodHandle" ∧ yX3_field.cls ≠ "java/lang/invoke/VarHandle" ∧ (parseMethodDescriptor yX3_field.desc).map (fun d => d.parameters.length) = some 2 := ⟨rfl, nmh_X3_field⟩
theorem nmh_X3_has : yX3_has.cls ≠ "java/lang/invoke/MethodHandle" ∧ yX3_has.cls ≠ "java/lang/invoke/VarHandle" ∧ (parseMethodDescriptor yX3_has.desc).map (fun d => d.parameters.length) = some 2 := by decide +kernel
theorem nmh_X3_errand : yX3_errand.cls ≠ "java/lang/invoke/MethodHandle" ∧ yX3_errand.cls ≠ "java/lang/invoke/VarHandle" ∧ (parseMethodDescriptor yX3_errand.desc).map (fun d => d.parameters.length) = some 2 := by decide +kernel
theorem nmv_X3_errand : yX3_errand.cls = "TollOnVowelsModel" ∧ yX3_errand.cls ≠ "java/lang/invoke/MethodHandle" ∧ yX3_errand.cls ≠ "java/lang/invoke/VarHandle" ∧ (parseMethodDescriptor yX3_errand.desc).map (fun d => d.parameters.length) = some 2 := ⟨rfl, nmh_X3_errand⟩
theorem nmh_X3_book : yX3_book.cls ≠ "java/lang/invoke/MethodHandle" ∧ yX3_book.cls ≠ "java/lang/invoke/VarHandle" ∧ (parseMethodDescriptor yX3_book.desc).map (fun d => d.parameters.length) = some 2 := by decide +kernel
theorem nmv_X3_book : yX3_book.cls = "TollOnVowelsModel" ∧ yX3_book.cls ≠ "java/lang/invoke/MethodHandle" ∧ yX3_book.cls ≠ "java/lang/invoke/VarHandle" ∧ (parseMethodDescriptor yX3_book.desc).map (fun d => d.parameters.length) = some 2 := ⟨rfl, nmh_X3_book⟩
theorem nmh_X3_isStation : yX3_isStation.cls ≠ "java/lang/invoke/MethodHandle" ∧ yX3_isStation.cls ≠ "java/lang/invoke/VarHandle" ∧ (parseMethodDescriptor yX3_isStation.desc).map (fun d => d.parameters.length) = some 1 := by decide +kernel
theorem nmv_X3_isStation : yX3_isStation.cls = "TollOnVowelsModel" ∧ yX3_isStation.cls ≠ "java/lang/invoke/MethodHandle" ∧ yX3_isStation.cls ≠ "java/lang/invoke/VarHandle" ∧ (parseMethodDescriptor yX3_isStation.desc).map (fun d => d.parameters.length) = some 1 := ⟨rfl, nmh_X3_isStation⟩
theorem nmh_X3_sheet : yX3_sheet.cls ≠ "java/lang/invoke/MethodHandle" ∧ yX3_sheet.cls ≠ "java/lang/invoke/VarHandle" ∧ (parseMethodDescriptor yX3_sheet.desc).map (fun d => d.parameters.length) = some 4 := by decide +kernel
theorem nmv_X3_sheet : yX3_sheet.cls = "TollOnVowelsModel" ∧ yX3_sheet.cls ≠ "java/lang/invoke/MethodHandle" ∧ yX3_sheet.cls ≠ "java/lang/invoke/VarHandle" ∧ (parseMethodDescriptor yX3_sheet.desc).map (fun d => d.parameters.length) = some 4 := ⟨rfl, nmh_X3_sheet⟩
theorem nmh_X3_toll : yX3_toll.cls ≠ "java/lang/invoke/MethodHandle" ∧ yX3_toll.cls ≠ "java/lang/invoke/VarHandle" ∧ (parseMethodDescriptor yX3_toll.desc).map (fun d => d.parameters.length) = some 2 := by decide +kernel
theorem nmv_X3_toll : yX3_toll.cls = "TollOnVowelsModel" ∧ yX3_toll.cls ≠ "java/lang/invoke/MethodHandle" ∧ yX3_toll.cls ≠ "java/lang/invoke/VarHandle" ∧ (parseMethodDescriptor yX3_toll.desc).map (fun d => d.parameters.length) = some 2 := ⟨rfl, nmh_X3_toll⟩
theorem nmh_X3_tollNow : yX3_tollNow.cls ≠ "java/lang/invoke/MethodHandle" ∧ yX3_tollNow.cls ≠ "java/lang/invoke/VarHandle" ∧ (parseMethodDescriptor yX3_tollNow.desc).map (fun d => d.parameters.length) = some 2 := by decide +kernel
theorem nmv_X3_tollNow : yX3_tollNow.cls = "TollOnVowelsModel" ∧ yX3_tollNow.cls ≠ "java/lang/invoke/MethodHandle" ∧ yX3_tollNow.cls ≠ "java/lang/invoke/VarHandle" ∧ (parseMethodDescriptor yX3_tollNow.desc).map (fun d => d.parameters.length) = some 2 := ⟨rfl, nmh_X3_tollNow⟩
theorem nmh_X3_tollOf : yX3_tollOf.cls ≠ "java/lang/invoke/MethodHandle" ∧ yX3_tollOf.cls ≠ "java/lang/invoke/VarHandle" ∧ (parseMethodDescriptor yX3_tollOf.desc).map (fun d => d.parameters.length) = some 3 := by decide +kernel
theorem nmv_X3_tollOf : yX3_tollOf.cls = "TollOnVowelsModel" ∧ yX3_tollOf.cls ≠ "java/lang/invoke/MethodHandle" ∧ yX3_tollOf.cls ≠ "java/lang/invoke/VarHandle" ∧ (parseMethodDescriptor yX3_tollOf.desc).map (fun d => d.parameters.length) = some 3 := ⟨rfl, nmh_X3_tollOf⟩
theorem nmh_X3_tell : yX3_tell.cls ≠ "java/lang/invoke/MethodHandle" ∧ yX3_tell.cls ≠ "java/lang/invoke/VarHandle" ∧ (parseMethodDescriptor yX3_tell.desc).map (fun d => d.parameters.length) = some 1 := by decide +kernel
theorem nmv_X3_tell : yX3_tell.cls = "TollOnVowelsModel" ∧ yX3_tell.cls ≠ "java/lang/invoke/MethodHandle" ∧ yX3_tell.cls ≠ "java/lang/invoke/VarHandle" ∧ (parseMethodDescriptor yX3_tell.desc).map (fun d => d.parameters.length) = some 1 := ⟨rfl, nmh_X3_tell⟩
theorem nmh_X3_walk : yX3_walk.cls ≠ "java/lang/invoke/MethodHandle" ∧ yX3_walk.cls ≠ "java/lang/invoke/VarHandle" ∧ (parseMethodDescriptor yX3_walk.desc).map (fun d => d.parameters.length) = some 2 := by decide +kernel
theorem nmv_X3_walk : yX3_walk.cls = "TollOnVowelsModel" ∧ yX3_walk.cls ≠ "java/lang/invoke/MethodHandle" ∧ yX3_walk.cls ≠ "java/lang/invoke/VarHandle" ∧ (parseMethodDescriptor yX3_walk.desc).map (fun d => d.parameters.length) = some 2 := ⟨rfl, nmh_X3_walk⟩
theorem nmh_X3_refusesWalk : yX3_refusesWalk.cls ≠ "java/lang/invoke/MethodHandle" ∧ yX3_refusesWalk.cls ≠ "java/lang/invoke/VarHandle" ∧ (parseMethodDescriptor yX3_refusesWalk.desc).map (fun d => d.parameters.length) = some 3 := by decide +kernel
theorem nmv_X3_refusesWalk : yX3_refusesWalk.cls = "TollOnVowelsModel" ∧ yX3_refusesWalk.cls ≠ "java/lang/invoke/MethodHandle" ∧ yX3_refusesWalk.cls ≠ "java/lang/invoke/VarHandle" ∧ (parseMethodDescriptor yX3_refusesWalk.desc).map (fun d => d.parameters.length) = some 3 := ⟨rfl, nmh_X3_refusesWalk⟩
theorem nmh_X3_remember : yX3_remember.cls ≠ "java/lang/invoke/MethodHandle" ∧ yX3_remember.cls ≠ "java/lang/invoke/VarHandle" ∧ (parseMethodDescriptor yX3_remember.desc).map (fun d => d.parameters.length) = some 1 := by decide +kernel
theorem nmv_X3_remember : yX3_remember.cls = "TollOnVowelsModel" ∧ yX3_remember.cls ≠ "java/lang/invoke/MethodHandle" ∧ yX3_remember.cls ≠ "java/lang/invoke/VarHandle" ∧ (parseMethodDescriptor yX3_remember.desc).map (fun d => d.parameters.length) = some 1 := ⟨rfl, nmh_X3_remember⟩
theorem nmh_X3_lay : yX3_lay.cls ≠ "java/lang/invoke/MethodHandle" ∧ yX3_lay.cls ≠ "java/lang/invoke/VarHandle" ∧ (parseMethodDescriptor yX3_lay.desc).map (fun d => d.parameters.length) = some 3 := by decide +kernel
theorem nmh_X3_goWalk : yX3_goWalk.cls ≠ "java/lang/invoke/MethodHandle" ∧ yX3_goWalk.cls ≠ "java/lang/invoke/VarHandle" ∧ (parseMethodDescriptor yX3_goWalk.desc).map (fun d => d.parameters.length) = some 3 := by decide +kernel
theorem nmh_X3_pause : yX3_pause.cls ≠ "java/lang/invoke/MethodHandle" ∧ yX3_pause.cls ≠ "java/lang/invoke/VarHandle" ∧ (parseMethodDescriptor yX3_pause.desc).map (fun d => d.parameters.length) = some 1 := by decide +kernel
theorem nmv_X3_pause : yX3_pause.cls = "TollOnVowelsModel" ∧ yX3_pause.cls ≠ "java/lang/invoke/MethodHandle" ∧ yX3_pause.cls ≠ "java/lang/invoke/VarHandle" ∧ (parseMethodDescriptor yX3_pause.desc).map (fun d => d.parameters.length) = some 1 := ⟨rfl, nmh_X3_pause⟩
theorem nmh_X3_say : yX3_say.cls ≠ "java/lang/invoke/MethodHandle" ∧ yX3_say.cls ≠ "java/lang/invoke/VarHandle" ∧ (parseMethodDescriptor yX3_say.desc).map (fun d => d.parameters.length) = some 2 := by decide +kernel
theorem nmv_X3_say : yX3_say.cls = "TollOnVowelsModel" ∧ yX3_say.cls ≠ "java/lang/invoke/MethodHandle" ∧ yX3_say.cls ≠ "java/lang/invoke/VarHandle" ∧ (parseMethodDescriptor yX3_say.desc).map (fun d => d.parameters.length) = some 2 := ⟨rfl, nmh_X3_say⟩
theorem nmh_X3_refusesSay : yX3_refusesSay.cls ≠ "java/lang/invoke/MethodHandle" ∧ yX3_refusesSay.cls ≠ "java/lang/invoke/VarHandle" ∧ (parseMethodDescriptor yX3_refusesSay.desc).map (fun d => d.parameters.length) = some 3 := by decide +kernel
theorem nmv_X3_refusesSay : yX3_refusesSay.cls = "TollOnVowelsModel" ∧ yX3_refusesSay.cls ≠ "java/lang/invoke/MethodHandle" ∧ yX3_refusesSay.cls ≠ "java/lang/invoke/VarHandle" ∧ (parseMethodDescriptor yX3_refusesSay.desc).map (fun d => d.parameters.length) = some 3 := ⟨rfl, nmh_X3_refusesSay⟩
theorem nmh_X3_goSay : yX3_goSay.cls ≠ "java/lang/invoke/MethodHandle" ∧ yX3_goSay.cls ≠ "java/lang/invoke/VarHandle" ∧ (parseMethodDescriptor yX3_goSay.desc).map (fun d => d.parameters.length) = some 3 := by decide +kernel
theorem nmv_X3_goSay : yX3_goSay.cls = "TollOnVowelsModel" ∧ yX3_goSay.cls ≠ "java/lang/invoke/MethodHandle" ∧ yX3_goSay.cls ≠ "java/lang/invoke/VarHandle" ∧ (parseMethodDescriptor yX3_goSay.desc).map (fun d => d.parameters.length) = some 3 := ⟨rfl, nmh_X3_goSay⟩
theorem nmh_X3_means : yX3_means.cls ≠ "java/lang/invoke/MethodHandle" ∧ yX3_means.cls ≠ "java/lang/invoke/VarHandle" ∧ (parseMethodDescriptor yX3_means.desc).map (fun d => d.parameters.length) = some 2 := by decide +kernel
theorem nmv_X3_means : yX3_means.cls = "TollOnVowelsModel" ∧ yX3_means.cls ≠ "java/lang/invoke/MethodHandle" ∧ yX3_means.cls ≠ "java/lang/invoke/VarHandle" ∧ (parseMethodDescriptor yX3_means.desc).map (fun d => d.parameters.length) = some 2 := ⟨rfl, nmh_X3_means⟩
theorem nmh_X3_alms : yX3_alms.cls ≠ "java/lang/invoke/MethodHandle" ∧ yX3_alms.cls ≠ "java/lang/invoke/VarHandle" ∧ (parseMethodDescriptor yX3_alms.desc).map (fun d => d.parameters.length) = some 3 := by decide +kernel
theorem nmv_X3_alms : yX3_alms.cls = "TollOnVowelsModel" ∧ yX3_alms.cls ≠ "java/lang/invoke/MethodHandle" ∧ yX3_alms.cls ≠ "java/lang/invoke/VarHandle" ∧ (parseMethodDescriptor yX3_alms.desc).map (fun d => d.parameters.length) = some 3 := ⟨rfl, nmh_X3_alms⟩
theorem nmh_X3_journey : yX3_journey.cls ≠ "java/lang/invoke/MethodHandle" ∧ yX3_journey.cls ≠ "java/lang/invoke/VarHandle" ∧ (parseMethodDescriptor yX3_journey.desc).map (fun d => d.parameters.length) = some 0 := by decide +kernel
theorem nmv_X3_journey : yX3_journey.cls = "TollOnVowelsModel" ∧ yX3_journey.cls ≠ "java/lang/invoke/MethodHandle" ∧ yX3_journey.cls ≠ "java/lang/invoke/VarHandle" ∧ (parseMethodDescriptor yX3_journey.desc).map (fun d => d.parameters.length) = some 0 := ⟨rfl, nmh_X3_journey⟩
theorem nmh_X3_readAct : yX3_readAct.cls ≠ "java/lang/invoke/MethodHandle" ∧ yX3_readAct.cls ≠ "java/lang/invoke/VarHandle" ∧ (parseMethodDescriptor yX3_readAct.desc).map (fun d => d.parameters.length) = some 1 := by decide +kernel
theorem nmv_X3_readAct : yX3_readAct.cls = "TollOnVowelsModel" ∧ yX3_readAct.cls ≠ "java/lang/invoke/MethodHandle" ∧ yX3_readAct.cls ≠ "java/lang/invoke/VarHandle" ∧ (parseMethodDescriptor yX3_readAct.desc).map (fun d => d.parameters.length) = some 1 := ⟨rfl, nmh_X3_readAct⟩
theorem nmh_X3_act : yX3_act.cls ≠ "java/lang/invoke/MethodHandle" ∧ yX3_act.cls ≠ "java/lang/invoke/VarHandle" ∧ (parseMethodDescriptor yX3_act.desc).map (fun d => d.parameters.length) = some 3 := by decide +kernel
theorem nmv_X3_act : yX3_act.cls = "TollOnVowelsModel" ∧ yX3_act.cls ≠ "java/lang/invoke/MethodHandle" ∧ yX3_act.cls ≠ "java/lang/invoke/VarHandle" ∧ (parseMethodDescriptor yX3_act.desc).map (fun d => d.parameters.length) = some 3 := ⟨rfl, nmh_X3_act⟩
theorem nmh_X3_wordFor : yX3_wordFor.cls ≠ "java/lang/invoke/MethodHandle" ∧ yX3_wordFor.cls ≠ "java/lang/invoke/VarHandle" ∧ (parseMethodDescriptor yX3_wordFor.desc).map (fun d => d.parameters.length) = some 1 := by decide +kernel
theorem nmv_X3_wordFor : yX3_wordFor.cls = "TollOnVowelsModel" ∧ yX3_wordFor.cls ≠ "java/lang/invoke/MethodHandle" ∧ yX3_wordFor.cls ≠ "java/lang/invoke/VarHandle" ∧ (parseMethodDescriptor yX3_wordFor.desc).map (fun d => d.parameters.length) = some 1 := ⟨rfl, nmh_X3_wordFor⟩
theorem nmh_X3_cheapestOf : yX3_cheapestOf.cls ≠ "java/lang/invoke/MethodHandle" ∧ yX3_cheapestOf.cls ≠ "java/lang/invoke/VarHandle" ∧ (parseMethodDescriptor yX3_cheapestOf.desc).map (fun d => d.parameters.length) = some 2 := by decide +kernel
theorem nmv_X3_cheapestOf : yX3_cheapestOf.cls = "TollOnVowelsModel" ∧ yX3_cheapestOf.cls ≠ "java/lang/invoke/MethodHandle" ∧ yX3_cheapestOf.cls ≠ "java/lang/invoke/VarHandle" ∧ (parseMethodDescriptor yX3_cheapestOf.desc).map (fun d => d.parameters.length) = some 2 := ⟨rfl, nmh_X3_cheapestOf⟩
theorem nmh_X3_undo : yX3_undo.cls ≠ "java/lang/invoke/MethodHandle" ∧ yX3_undo.cls ≠ "java/lang/invoke/VarHandle" ∧ (parseMethodDescriptor yX3_undo.desc).map (fun d => d.parameters.length) = some 0 := by decide +kernel
theorem nmv_X3_undo : yX3_undo.cls = "TollOnVowelsModel" ∧ yX3_undo.cls ≠ "java/lang/invoke/MethodHandle" ∧ yX3_undo.cls ≠ "java/lang/invoke/VarHandle" ∧ (parseMethodDescriptor yX3_undo.desc).map (fun d => d.parameters.length) = some 0 := ⟨rfl, nmh_X3_undo⟩
theorem nmh_X3_cheapest : yX3_cheapest.cls ≠ "java/lang/invoke/MethodHandle" ∧ yX3_cheapest.cls ≠ "java/lang/invoke/VarHandle" ∧ (parseMethodDescriptor yX3_cheapest.desc).map (fun d => d.parameters.length) = some 2 := by decide +kernel
theorem nmv_X3_cheapest : yX3_cheapest.cls = "TollOnVowelsModel" ∧ yX3_cheapest.cls ≠ "java/lang/invoke/MethodHandle" ∧ yX3_cheapest.cls ≠ "java/lang/invoke/VarHandle" ∧ (parseMethodDescriptor yX3_cheapest.desc).map (fun d => d.parameters.length) = some 2 := ⟨rfl, nmh_X3_cheapest⟩
theorem nmh_X3_isMeaning : yX3_isMeaning.cls ≠ "java/lang/invoke/MethodHandle" ∧ yX3_isMeaning.cls ≠ "java/lang/invoke/VarHandle" ∧ (parseMethodDescriptor yX3_isMeaning.desc).map (fun d => d.parameters.length) = some 1 := by decide +kernel
theorem nmh_X3_sentence : yX3_sentence.cls ≠ "java/lang/invoke/MethodHandle" ∧ yX3_sentence.cls ≠ "java/lang/invoke/VarHandle" ∧ (parseMethodDescriptor yX3_sentence.desc).map (fun d => d.parameters.length) = some 1 := by decide +kernel
theorem nmv_X3_sentence : yX3_sentence.cls = "TollOnVowelsModel" ∧ yX3_sentence.cls ≠ "java/lang/invoke/MethodHandle" ∧ yX3_sentence.cls ≠ "java/lang/invoke/VarHandle" ∧ (parseMethodDescriptor yX3_sentence.desc).map (fun d => d.parameters.length) = some 1 := ⟨rfl, nmh_X3_sentence⟩
theorem nmh_X3_tells : yX3_tells.cls ≠ "java/lang/invoke/MethodHandle" ∧ yX3_tells.cls ≠ "java/lang/invoke/VarHandle" ∧ (parseMethodDescriptor yX3_tells.desc).map (fun d => d.parameters.length) = some 3 := by decide +kernel
theorem nmv_X3_tells : yX3_tells.cls = "TollOnVowelsModel" ∧ yX3_tells.cls ≠ "java/lang/invoke/MethodHandle" ∧ yX3_tells.cls ≠ "java/lang/invoke/VarHandle" ∧ (parseMethodDescriptor yX3_tells.desc).map (fun d => d.parameters.length) = some 3 := ⟨rfl, nmh_X3_tells⟩
theorem nmh_X3_when : yX3_when.cls ≠ "java/lang/invoke/MethodHandle" ∧ yX3_when.cls ≠ "java/lang/invoke/VarHandle" ∧ (parseMethodDescriptor yX3_when.desc).map (fun d => d.parameters.length) = some 2 := by decide +kernel
theorem nmv_X3_when : yX3_when.cls = "TollOnVowelsModel" ∧ yX3_when.cls ≠ "java/lang/invoke/MethodHandle" ∧ yX3_when.cls ≠ "java/lang/invoke/VarHandle" ∧ (parseMethodDescriptor yX3_when.desc).map (fun d => d.parameters.length) = some 2 := ⟨rfl, nmh_X3_when⟩
theorem nmh_X3_shortest : yX3_shortest.cls ≠ "java/lang/invoke/MethodHandle" ∧ yX3_shortest.cls ≠ "java/lang/invoke/VarHandle" ∧ (parseMethodDescriptor yX3_shortest.desc).map (fun d => d.parameters.length) = some 3 := by decide +kernel
theorem nmv_X3_shortest : yX3_shortest.cls = "TollOnVowelsModel" ∧ yX3_shortest.cls ≠ "java/lang/invoke/MethodHandle" ∧ yX3_shortest.cls ≠ "java/lang/invoke/VarHandle" ∧ (parseMethodDescriptor yX3_shortest.desc).map (fun d => d.parameters.length) = some 3 := ⟨rfl, nmh_X3_shortest⟩
theorem nmh_X3_differ : yX3_differ.cls ≠ "java/lang/invoke/MethodHandle" ∧ yX3_differ.cls ≠ "java/lang/invoke/VarHandle" ∧ (parseMethodDescriptor yX3_differ.desc).map (fun d => d.parameters.length) = some 2 := by decide +kernel
theorem nmv_X3_differ : yX3_differ.cls = "TollOnVowelsModel" ∧ yX3_differ.cls ≠ "java/lang/invoke/MethodHandle" ∧ yX3_differ.cls ≠ "java/lang/invoke/VarHandle" ∧ (parseMethodDescriptor yX3_differ.desc).map (fun d => d.parameters.length) = some 2 := ⟨rfl, nmh_X3_differ⟩
theorem nmh_X3_differBy : yX3_differBy.cls ≠ "java/lang/invoke/MethodHandle" ∧ yX3_differBy.cls ≠ "java/lang/invoke/VarHandle" ∧ (parseMethodDescriptor yX3_differBy.desc).map (fun d => d.parameters.length) = some 3 := by decide +kernel
theorem nmv_X3_differBy : yX3_differBy.cls = "TollOnVowelsModel" ∧ yX3_differBy.cls ≠ "java/lang/invoke/MethodHandle" ∧ yX3_differBy.cls ≠ "java/lang/invoke/VarHandle" ∧ (parseMethodDescriptor yX3_differBy.desc).map (fun d => d.parameters.length) = some 3 := ⟨rfl, nmh_X3_differBy⟩
theorem nmh_X3_layWord : yX3_layWord.cls ≠ "java/lang/invoke/MethodHandle" ∧ yX3_layWord.cls ≠ "java/lang/invoke/VarHandle" ∧ (parseMethodDescriptor yX3_layWord.desc).map (fun d => d.parameters.length) = some 3 := by decide +kernel
theorem nmv_X3_layWord : yX3_layWord.cls = "TollOnVowelsModel" ∧ yX3_layWord.cls ≠ "java/lang/invoke/MethodHandle" ∧ yX3_layWord.cls ≠ "java/lang/invoke/VarHandle" ∧ (parseMethodDescriptor yX3_layWord.desc).map (fun d => d.parameters.length) = some 3 := ⟨rfl, nmh_X3_layWord⟩
theorem nmh_X3_changesOf : yX3_changesOf.cls ≠ "java/lang/invoke/MethodHandle" ∧ yX3_changesOf.cls ≠ "java/lang/invoke/VarHandle" ∧ (parseMethodDescriptor yX3_changesOf.desc).map (fun d => d.parameters.length) = some 2 := by decide +kernel
theorem nmv_X3_changesOf : yX3_changesOf.cls = "TollOnVowelsModel" ∧ yX3_changesOf.cls ≠ "java/lang/invoke/MethodHandle" ∧ yX3_changesOf.cls ≠ "java/lang/invoke/VarHandle" ∧ (parseMethodDescriptor yX3_changesOf.desc).map (fun d => d.parameters.length) = some 2 := ⟨rfl, nmh_X3_changesOf⟩
theorem nmh_X3_near : yX3_near.cls ≠ "java/lang/invoke/MethodHandle" ∧ yX3_near.cls ≠ "java/lang/invoke/VarHandle" ∧ (parseMethodDescriptor yX3_near.desc).map (fun d => d.parameters.length) = some 1 := by decide +kernel
theorem nmv_X3_near : yX3_near.cls = "TollOnVowelsModel" ∧ yX3_near.cls ≠ "java/lang/invoke/MethodHandle" ∧ yX3_near.cls ≠ "java/lang/invoke/VarHandle" ∧ (parseMethodDescriptor yX3_near.desc).map (fun d => d.parameters.length) = some 1 := ⟨rfl, nmh_X3_near⟩
theorem nmh_X3_share : yX3_share.cls ≠ "java/lang/invoke/MethodHandle" ∧ yX3_share.cls ≠ "java/lang/invoke/VarHandle" ∧ (parseMethodDescriptor yX3_share.desc).map (fun d => d.parameters.length) = some 2 := by decide +kernel
theorem nmv_X3_share : yX3_share.cls = "TollOnVowelsModel" ∧ yX3_share.cls ≠ "java/lang/invoke/MethodHandle" ∧ yX3_share.cls ≠ "java/lang/invoke/VarHandle" ∧ (parseMethodDescriptor yX3_share.desc).map (fun d => d.parameters.length) = some 2 := ⟨rfl, nmh_X3_share⟩
theorem nmh_X3_heard : yX3_heard.cls ≠ "java/lang/invoke/MethodHandle" ∧ yX3_heard.cls ≠ "java/lang/invoke/VarHandle" ∧ (parseMethodDescriptor yX3_heard.desc).map (fun d => d.parameters.length) = some 3 := by decide +kernel
theorem nmv_X3_heard : yX3_heard.cls = "TollOnVowelsModel" ∧ yX3_heard.cls ≠ "java/lang/invoke/MethodHandle" ∧ yX3_heard.cls ≠ "java/lang/invoke/VarHandle" ∧ (parseMethodDescriptor yX3_heard.desc).map (fun d => d.parameters.length) = some 3 := ⟨rfl, nmh_X3_heard⟩
theorem nmh_X3_power : yX3_power.cls ≠ "java/lang/invoke/MethodHandle" ∧ yX3_power.cls ≠ "java/lang/invoke/VarHandle" ∧ (parseMethodDescriptor yX3_power.desc).map (fun d => d.parameters.length) = some 2 := by decide +kernel
theorem nmh_X3_common : yX3_common.cls ≠ "java/lang/invoke/MethodHandle" ∧ yX3_common.cls ≠ "java/lang/invoke/VarHandle" ∧ (parseMethodDescriptor yX3_common.desc).map (fun d => d.parameters.length) = some 2 := by decide +kernel
theorem nmh_X3_code : yX3_code.cls ≠ "java/lang/invoke/MethodHandle" ∧ yX3_code.cls ≠ "java/lang/invoke/VarHandle" ∧ (parseMethodDescriptor yX3_code.desc).map (fun d => d.parameters.length) = some 1 := by decide +kernel
theorem nmv_X3_code : yX3_code.cls = "TollOnVowelsModel" ∧ yX3_code.cls ≠ "java/lang/invoke/MethodHandle" ∧ yX3_code.cls ≠ "java/lang/invoke/VarHandle" ∧ (parseMethodDescriptor yX3_code.desc).map (fun d => d.parameters.length) = some 1 := ⟨rfl, nmh_X3_code⟩
theorem nmh_X3_tollsOf : yX3_tollsOf.cls ≠ "java/lang/invoke/MethodHandle" ∧ yX3_tollsOf.cls ≠ "java/lang/invoke/VarHandle" ∧ (parseMethodDescriptor yX3_tollsOf.desc).map (fun d => d.parameters.length) = some 2 := by decide +kernel
theorem nmv_X3_tollsOf : yX3_tollsOf.cls = "TollOnVowelsModel" ∧ yX3_tollsOf.cls ≠ "java/lang/invoke/MethodHandle" ∧ yX3_tollsOf.cls ≠ "java/lang/invoke/VarHandle" ∧ (parseMethodDescriptor yX3_tollsOf.desc).map (fun d => d.parameters.length) = some 2 := ⟨rfl, nmh_X3_tollsOf⟩
theorem nmh_X3_areApart : yX3_areApart.cls ≠ "java/lang/invoke/MethodHandle" ∧ yX3_areApart.cls ≠ "java/lang/invoke/VarHandle" ∧ (parseMethodDescriptor yX3_areApart.desc).map (fun d => d.parameters.length) = some 2 := by decide +kernel
theorem nmv_X3_areApart : yX3_areApart.cls = "TollOnVowelsModel" ∧ yX3_areApart.cls ≠ "java/lang/invoke/MethodHandle" ∧ yX3_areApart.cls ≠ "java/lang/invoke/VarHandle" ∧ (parseMethodDescriptor yX3_areApart.desc).map (fun d => d.parameters.length) = some 2 := ⟨rfl, nmh_X3_areApart⟩
theorem nmh_X3_trip : yX3_trip.cls ≠ "java/lang/invoke/MethodHandle" ∧ yX3_trip.cls ≠ "java/lang/invoke/VarHandle" ∧ (parseMethodDescriptor yX3_trip.desc).map (fun d => d.parameters.length) = some 2 := by decide +kernel
theorem nmv_X3_trip : yX3_trip.cls = "TollOnVowelsModel" ∧ yX3_trip.cls ≠ "java/lang/invoke/MethodHandle" ∧ yX3_trip.cls ≠ "java/lang/invoke/VarHandle" ∧ (parseMethodDescriptor yX3_trip.desc).map (fun d => d.parameters.length) = some 2 := ⟨rfl, nmh_X3_trip⟩
theorem nmh_X3_leastTrip : yX3_leastTrip.cls ≠ "java/lang/invoke/MethodHandle" ∧ yX3_leastTrip.cls ≠ "java/lang/invoke/VarHandle" ∧ (parseMethodDescriptor yX3_leastTrip.desc).map (fun d => d.parameters.length) = some 2 := by decide +kernel
theorem nmv_X3_leastTrip : yX3_leastTrip.cls = "TollOnVowelsModel" ∧ yX3_leastTrip.cls ≠ "java/lang/invoke/MethodHandle" ∧ yX3_leastTrip.cls ≠ "java/lang/invoke/VarHandle" ∧ (parseMethodDescriptor yX3_leastTrip.desc).map (fun d => d.parameters.length) = some 2 := ⟨rfl, nmh_X3_leastTrip⟩
theorem nmh_X3_move : yX3_move.cls ≠ "java/lang/invoke/MethodHandle" ∧ yX3_move.cls ≠ "java/lang/invoke/VarHandle" ∧ (parseMethodDescriptor yX3_move.desc).map (fun d => d.parameters.length) = some 0 := by decide +kernel
theorem nmv_X3_move : yX3_move.cls = "TollOnVowelsModel" ∧ yX3_move.cls ≠ "java/lang/invoke/MethodHandle" ∧ yX3_move.cls ≠ "java/lang/invoke/VarHandle" ∧ (parseMethodDescriptor yX3_move.desc).map (fun d => d.parameters.length) = some 0 := ⟨rfl, nmh_X3_move⟩
theorem nmh_X3_speak : yX3_speak.cls ≠ "java/lang/invoke/MethodHandle" ∧ yX3_speak.cls ≠ "java/lang/invoke/VarHandle" ∧ (parseMethodDescriptor yX3_speak.desc).map (fun d => d.parameters.length) = some 2 := by decide +kernel
theorem nmv_X3_speak : yX3_speak.cls = "TollOnVowelsModel" ∧ yX3_speak.cls ≠ "java/lang/invoke/MethodHandle" ∧ yX3_speak.cls ≠ "java/lang/invoke/VarHandle" ∧ (parseMethodDescriptor yX3_speak.desc).map (fun d => d.parameters.length) = some 2 := ⟨rfl, nmh_X3_speak⟩
theorem nmh_X3_does : yX3_does.cls ≠ "java/lang/invoke/MethodHandle" ∧ yX3_does.cls ≠ "java/lang/invoke/VarHandle" ∧ (parseMethodDescriptor yX3_does.desc).map (fun d => d.parameters.length) = some 3 := by decide +kernel
theorem nmv_X3_does : yX3_does.cls = "TollOnVowelsModel" ∧ yX3_does.cls ≠ "java/lang/invoke/MethodHandle" ∧ yX3_does.cls ≠ "java/lang/invoke/VarHandle" ∧ (parseMethodDescriptor yX3_does.desc).map (fun d => d.parameters.length) = some 3 := ⟨rfl, nmh_X3_does⟩
theorem nmh_X3_haste : yX3_haste.cls ≠ "java/lang/invoke/MethodHandle" ∧ yX3_haste.cls ≠ "java/lang/invoke/VarHandle" ∧ (parseMethodDescriptor yX3_haste.desc).map (fun d => d.parameters.length) = some 1 := by decide +kernel
theorem nmv_X3_haste : yX3_haste.cls = "TollOnVowelsModel" ∧ yX3_haste.cls ≠ "java/lang/invoke/MethodHandle" ∧ yX3_haste.cls ≠ "java/lang/invoke/VarHandle" ∧ (parseMethodDescriptor yX3_haste.desc).map (fun d => d.parameters.length) = some 1 := ⟨rfl, nmh_X3_haste⟩
theorem nmh_X3_best : yX3_best.cls ≠ "java/lang/invoke/MethodHandle" ∧ yX3_best.cls ≠ "java/lang/invoke/VarHandle" ∧ (parseMethodDescriptor yX3_best.desc).map (fun d => d.parameters.length) = some 1 := by decide +kernel
theorem nmv_X3_best : yX3_best.cls = "TollOnVowelsModel" ∧ yX3_best.cls ≠ "java/lang/invoke/MethodHandle" ∧ yX3_best.cls ≠ "java/lang/invoke/VarHandle" ∧ (parseMethodDescriptor yX3_best.desc).map (fun d => d.parameters.length) = some 1 := ⟨rfl, nmh_X3_best⟩
theorem nmh_X3_takes : yX3_takes.cls ≠ "java/lang/invoke/MethodHandle" ∧ yX3_takes.cls ≠ "java/lang/invoke/VarHandle" ∧ (parseMethodDescriptor yX3_takes.desc).map (fun d => d.parameters.length) = some 2 := by decide +kernel
theorem nmv_X3_takes : yX3_takes.cls = "TollOnVowelsModel" ∧ yX3_takes.cls ≠ "java/lang/invoke/MethodHandle" ∧ yX3_takes.cls ≠ "java/lang/invoke/VarHandle" ∧ (parseMethodDescriptor yX3_takes.desc).map (fun d => d.parameters.length) = some 2 := ⟨rfl, nmh_X3_takes⟩
theorem nmh_X3_takesBy : yX3_takesBy.cls ≠ "java/lang/invoke/MethodHandle" ∧ yX3_takesBy.cls ≠ "java/lang/invoke/VarHandle" ∧ (parseMethodDescriptor yX3_takesBy.desc).map (fun d => d.parameters.length) = some 2 := by decide +kernel
theorem nmv_X3_takesBy : yX3_takesBy.cls = "TollOnVowelsModel" ∧ yX3_takesBy.cls ≠ "java/lang/invoke/MethodHandle" ∧ yX3_takesBy.cls ≠ "java/lang/invoke/VarHandle" ∧ (parseMethodDescriptor yX3_takesBy.desc).map (fun d => d.parameters.length) = some 2 := ⟨rfl, nmh_X3_takesBy⟩
theorem nmh_X3_greed : yX3_greed.cls ≠ "java/lang/invoke/MethodHandle" ∧ yX3_greed.cls ≠ "java/lang/invoke/VarHandle" ∧ (parseMethodDescriptor yX3_greed.desc).map (fun d => d.parameters.length) = some 1 := by decide +kernel
theorem nmv_X3_greed : yX3_greed.cls = "TollOnVowelsModel" ∧ yX3_greed.cls ≠ "java/lang/invoke/MethodHandle" ∧ yX3_greed.cls ≠ "java/lang/invoke/VarHandle" ∧ (parseMethodDescriptor yX3_greed.desc).map (fun d => d.parameters.length) = some 1 := ⟨rfl, nmh_X3_greed⟩
theorem nmh_X3_law : yX3_law.cls ≠ "java/lang/invoke/MethodHandle" ∧ yX3_law.cls ≠ "java/lang/invoke/VarHandle" ∧ (parseMethodDescriptor yX3_law.desc).map (fun d => d.parameters.length) = some 1 := by decide +kernel
theorem nmv_X3_law : yX3_law.cls = "TollOnVowelsModel" ∧ yX3_law.cls ≠ "java/lang/invoke/MethodHandle" ∧ yX3_law.cls ≠ "java/lang/invoke/VarHandle" ∧ (parseMethodDescriptor yX3_law.desc).map (fun d => d.parameters.length) = some 1 := ⟨rfl, nmh_X3_law⟩
theorem nmh_X3_said : yX3_said.cls ≠ "java/lang/invoke/MethodHandle" ∧ yX3_said.cls ≠ "java/lang/invoke/VarHandle" ∧ (parseMethodDescriptor yX3_said.desc).map (fun d => d.parameters.length) = some 0 := by decide +kernel
theorem nmv_X3_said : yX3_said.cls = "TollOnVowelsModel" ∧ yX3_said.cls ≠ "java/lang/invoke/MethodHandle" ∧ yX3_said.cls ≠ "java/lang/invoke/VarHandle" ∧ (parseMethodDescriptor yX3_said.desc).map (fun d => d.parameters.length) = some 0 := ⟨rfl, nmh_X3_said⟩
theorem nmh_X3_goSaid : yX3_goSaid.cls ≠ "java/lang/invoke/MethodHandle" ∧ yX3_goSaid.cls ≠ "java/lang/invoke/VarHandle" ∧ (parseMethodDescriptor yX3_goSaid.desc).map (fun d => d.parameters.length) = some 2 := by decide +kernel
theorem nmv_X3_goSaid : yX3_goSaid.cls = "TollOnVowelsModel" ∧ yX3_goSaid.cls ≠ "java/lang/invoke/MethodHandle" ∧ yX3_goSaid.cls ≠ "java/lang/invoke/VarHandle" ∧ (parseMethodDescriptor yX3_goSaid.desc).map (fun d => d.parameters.length) = some 2 := ⟨rfl, nmh_X3_goSaid⟩
theorem nmh_X3_isAll : yX3_isAll.cls ≠ "java/lang/invoke/MethodHandle" ∧ yX3_isAll.cls ≠ "java/lang/invoke/VarHandle" ∧ (parseMethodDescriptor yX3_isAll.desc).map (fun d => d.parameters.length) = some 0 := by decide +kernel
theorem nmv_X3_isAll : yX3_isAll.cls = "TollOnVowelsModel" ∧ yX3_isAll.cls ≠ "java/lang/invoke/MethodHandle" ∧ yX3_isAll.cls ≠ "java/lang/invoke/VarHandle" ∧ (parseMethodDescriptor yX3_isAll.desc).map (fun d => d.parameters.length) = some 0 := ⟨rfl, nmh_X3_isAll⟩
theorem nmh_X3_isFirst : yX3_isFirst.cls ≠ "java/lang/invoke/MethodHandle" ∧ yX3_isFirst.cls ≠ "java/lang/invoke/VarHandle" ∧ (parseMethodDescriptor yX3_isFirst.desc).map (fun d => d.parameters.length) = some 1 := by decide +kernel
theorem nmv_X3_isFirst : yX3_isFirst.cls = "TollOnVowelsModel" ∧ yX3_isFirst.cls ≠ "java/lang/invoke/MethodHandle" ∧ yX3_isFirst.cls ≠ "java/lang/invoke/VarHandle" ∧ (parseMethodDescriptor yX3_isFirst.desc).map (fun d => d.parameters.length) = some 1 := ⟨rfl, nmh_X3_isFirst⟩
theorem nmh_X3_take : yX3_take.cls ≠ "java/lang/invoke/MethodHandle" ∧ yX3_take.cls ≠ "java/lang/invoke/VarHandle" ∧ (parseMethodDescriptor yX3_take.desc).map (fun d => d.parameters.length) = some 2 := by decide +kernel
theorem nmv_X3_take : yX3_take.cls = "TollOnVowelsModel" ∧ yX3_take.cls ≠ "java/lang/invoke/MethodHandle" ∧ yX3_take.cls ≠ "java/lang/invoke/VarHandle" ∧ (parseMethodDescriptor yX3_take.desc).map (fun d => d.parameters.length) = some 2 := ⟨rfl, nmh_X3_take⟩
theorem nmh_X3_ask : yX3_ask.cls ≠ "java/lang/invoke/MethodHandle" ∧ yX3_ask.cls ≠ "java/lang/invoke/VarHandle" ∧ (parseMethodDescriptor yX3_ask.desc).map (fun d => d.parameters.length) = some 0 := by decide +kernel
theorem nmv_X3_ask : yX3_ask.cls = "TollOnVowelsModel" ∧ yX3_ask.cls ≠ "java/lang/invoke/MethodHandle" ∧ yX3_ask.cls ≠ "java/lang/invoke/VarHandle" ∧ (parseMethodDescriptor yX3_ask.desc).map (fun d => d.parameters.length) = some 0 := ⟨rfl, nmh_X3_ask⟩
theorem nmh_X3_years : yX3_years.cls ≠ "java/lang/invoke/MethodHandle" ∧ yX3_years.cls ≠ "java/lang/invoke/VarHandle" ∧ (parseMethodDescriptor yX3_years.desc).map (fun d => d.parameters.length) = some 2 := by decide +kernel
theorem nmv_X3_years : yX3_years.cls = "TollOnVowelsModel" ∧ yX3_years.cls ≠ "java/lang/invoke/MethodHandle" ∧ yX3_years.cls ≠ "java/lang/invoke/VarHandle" ∧ (parseMethodDescriptor yX3_years.desc).map (fun d => d.parameters.length) = some 2 := ⟨rfl, nmh_X3_years⟩
theorem nmh_X3_draw : yX3_draw.cls ≠ "java/lang/invoke/MethodHandle" ∧ yX3_draw.cls ≠ "java/lang/invoke/VarHandle" ∧ (parseMethodDescriptor yX3_draw.desc).map (fun d => d.parameters.length) = some 1 := by decide +kernel
theorem nmv_X3_draw : yX3_draw.cls = "TollOnVowelsModel" ∧ yX3_draw.cls ≠ "java/lang/invoke/MethodHandle" ∧ yX3_draw.cls ≠ "java/lang/invoke/VarHandle" ∧ (parseMethodDescriptor yX3_draw.desc).map (fun d => d.parameters.length) = some 1 := ⟨rfl, nmh_X3_draw⟩
theorem nmh_X3_keep : yX3_keep.cls ≠ "java/lang/invoke/MethodHandle" ∧ yX3_keep.cls ≠ "java/lang/invoke/VarHandle" ∧ (parseMethodDescriptor yX3_keep.desc).map (fun d => d.parameters.length) = some 1 := by decide +kernel
theorem nmv_X3_keep : yX3_keep.cls = "TollOnVowelsModel" ∧ yX3_keep.cls ≠ "java/lang/invoke/MethodHandle" ∧ yX3_keep.cls ≠ "java/lang/invoke/VarHandle" ∧ (parseMethodDescriptor yX3_keep.desc).map (fun d => d.parameters.length) = some 1 := ⟨rfl, nmh_X3_keep⟩
theorem nmh_X3_again : yX3_again.cls ≠ "java/lang/invoke/MethodHandle" ∧ yX3_again.cls ≠ "java/lang/invoke/VarHandle" ∧ (parseMethodDescriptor yX3_again.desc).map (fun d => d.parameters.length) = some 1 := by decide +kernel
theorem nmv_X3_again : yX3_again.cls = "TollOnVowelsModel" ∧ yX3_again.cls ≠ "java/lang/invoke/MethodHandle" ∧ yX3_again.cls ≠ "java/lang/invoke/VarHandle" ∧ (parseMethodDescriptor yX3_again.desc).map (fun d => d.parameters.length) = some 1 := ⟨rfl, nmh_X3_again⟩
theorem nmh_X3_count : yX3_count.cls ≠ "java/lang/invoke/MethodHandle" ∧ yX3_count.cls ≠ "java/lang/invoke/VarHandle" ∧ (parseMethodDescriptor yX3_count.desc).map (fun d => d.parameters.length) = some 1 := by decide +kernel
theorem nmv_X3_count : yX3_count.cls = "TollOnVowelsModel" ∧ yX3_count.cls ≠ "java/lang/invoke/MethodHandle" ∧ yX3_count.cls ≠ "java/lang/invoke/VarHandle" ∧ (parseMethodDescriptor yX3_count.desc).map (fun d => d.parameters.length) = some 1 := ⟨rfl, nmh_X3_count⟩
theorem nmh_X3_sumOf : yX3_sumOf.cls ≠ "java/lang/invoke/MethodHandle" ∧ yX3_sumOf.cls ≠ "java/lang/invoke/VarHandle" ∧ (parseMethodDescriptor yX3_sumOf.desc).map (fun d => d.parameters.length) = some 2 := by decide +kernel
theorem nmv_X3_sumOf : yX3_sumOf.cls = "TollOnVowelsModel" ∧ yX3_sumOf.cls ≠ "java/lang/invoke/MethodHandle" ∧ yX3_sumOf.cls ≠ "java/lang/invoke/VarHandle" ∧ (parseMethodDescriptor yX3_sumOf.desc).map (fun d => d.parameters.length) = some 2 := ⟨rfl, nmh_X3_sumOf⟩
theorem nmh_X3_row : yX3_row.cls ≠ "java/lang/invoke/MethodHandle" ∧ yX3_row.cls ≠ "java/lang/invoke/VarHandle" ∧ (parseMethodDescriptor yX3_row.desc).map (fun d => d.parameters.length) = some 1 := by decide +kernel
theorem nmv_X3_row : yX3_row.cls = "TollOnVowelsModel" ∧ yX3_row.cls ≠ "java/lang/invoke/MethodHandle" ∧ yX3_row.cls ≠ "java/lang/invoke/VarHandle" ∧ (parseMethodDescriptor yX3_row.desc).map (fun d => d.parameters.length) = some 1 := ⟨rfl, nmh_X3_row⟩
theorem nmh_X4_init : yX4_init.cls ≠ "java/lang/invoke/MethodHandle" ∧ yX4_init.cls ≠ "java/lang/invoke/VarHandle" ∧ (parseMethodDescriptor yX4_init.desc).map (fun d => d.parameters.length) = some 1 := by decide +kernel
theorem nmh_X5_init : yX5_init.cls ≠ "java/lang/invoke/MethodHandle" ∧ yX5_init.cls ≠ "java/lang/invoke/VarHandle" ∧ (parseMethodDescriptor yX5_init.desc).map (fun d => d.parameters.length) = some 2 := by decide +kernel
theorem nmh_X5_value : yX5_value.cls ≠ "java/lang/invoke/MethodHandle" ∧ yX5_value.cls ≠ "java/lang/invoke/VarHandle" ∧ (parseMethodDescriptor yX5_value.desc).map (fun d => d.parameters.length) = some 0 := by decide +kernel
theorem nmv_X5_value : yX5_value.cls = "TollOnVowels$Less" ∧ yX5_value.cls ≠ "java/lang/invoke/MethodHandle" ∧ yX5_value.cls ≠ "java/lang/invoke/VarHandle" ∧ (parseMethodDescriptor yX5_value.desc).map (fun d => d.parameters.length) = some 0 := ⟨rfl, nmh_X5_value⟩
theorem nmh_X6_init : yX6_init.cls ≠ "java/lang/invoke/MethodHandle" ∧ yX6_init.cls ≠ "java/lang/invoke/VarHandle" ∧ (parseMethodDescriptor yX6_init.desc).map (fun d => d.parameters.length) = some 2 := by decide +kernel
theorem nmh_X6_value : yX6_value.cls ≠ "java/lang/invoke/MethodHandle" ∧ yX6_value.cls ≠ "java/lang/invoke/VarHandle" ∧ (parseMethodDescriptor yX6_value.desc).map (fun d => d.parameters.length) = some 0 := by decide +kernel
theorem nmv_X6_value : yX6_value.cls = "TollOnVowels$Number" ∧ yX6_value.cls ≠ "java/lang/invoke/MethodHandle" ∧ yX6_value.cls ≠ "java/lang/invoke/VarHandle" ∧ (parseMethodDescriptor yX6_value.desc).map (fun d => d.parameters.length) = some 0 := ⟨rfl, nmh_X6_value⟩
theorem nmh_X7_init : yX7_init.cls ≠ "java/lang/invoke/MethodHandle" ∧ yX7_init.cls ≠ "java/lang/invoke/VarHandle" ∧ (parseMethodDescriptor yX7_init.desc).map (fun d => d.parameters.length) = some 2 := by decide +kernel
theorem nmh_X7_value : yX7_value.cls ≠ "java/lang/invoke/MethodHandle" ∧ yX7_value.cls ≠ "java/lang/invoke/VarHandle" ∧ (parseMethodDescriptor yX7_value.desc).map (fun d => d.parameters.length) = some 0 := by decide +kernel
theorem nmv_X7_value : yX7_value.cls = "TollOnVowels$Sign" ∧ yX7_value.cls ≠ "java/lang/invoke/MethodHandle" ∧ yX7_value.cls ≠ "java/lang/invoke/VarHandle" ∧ (parseMethodDescriptor yX7_value.desc).map (fun d => d.parameters.length) = some 0 := ⟨rfl, nmh_X7_value⟩
theorem nmh_X8_init : yX8_init.cls ≠ "java/lang/invoke/MethodHandle" ∧ yX8_init.cls ≠ "java/lang/invoke/VarHandle" ∧ (parseMethodDescriptor yX8_init.desc).map (fun d => d.parameters.length) = some 4 := by decide +kernel
theorem nmh_X8_value : yX8_value.cls ≠ "java/lang/invoke/MethodHandle" ∧ yX8_value.cls ≠ "java/lang/invoke/VarHandle" ∧ (parseMethodDescriptor yX8_value.desc).map (fun d => d.parameters.length) = some 0 := by decide +kernel
theorem nmv_X8_value : yX8_value.cls = "TollOnVowels$Act" ∧ yX8_value.cls ≠ "java/lang/invoke/MethodHandle" ∧ yX8_value.cls ≠ "java/lang/invoke/VarHandle" ∧ (parseMethodDescriptor yX8_value.desc).map (fun d => d.parameters.length) = some 0 := ⟨rfl, nmh_X8_value⟩
theorem nmh_J10_bitCount : yJ10_bitCount.cls ≠ "java/lang/invoke/MethodHandle" ∧ yJ10_bitCount.cls ≠ "java/lang/invoke/VarHandle" ∧ (parseMethodDescriptor yJ10_bitCount.desc).map (fun d => d.parameters.length) = some 1 := by decide +kernel
