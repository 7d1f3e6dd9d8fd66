set_option maxRecDepth 100000
/-! LINES, one behind another -/
def exF {D : Type} (F : Nat → D) (k : Nat) (d : D) : Nat → D := fun i => if i = k then d else F i
def goL {D : Type} (ln : Nat → Nat → Nat × Option D) (b : Nat → Nat) (e : Nat) : Nat → Nat → (Nat → D) → Nat → Nat × Option (Nat × (Nat → D))
  | 0, _, _, p => (p, none)
  | f + 1, k, F, p => match ln k p with
    | (q, none) => (q, none)
    | (q, some d) => if q < e ∧ b q = 59 then goL ln b e f (k + 1) (exF F k d) (q + 1) else (q, some (k + 1, exF F k d))
section
variable {D : Type} {ln : Nat → Nat → Nat × Option D} {b : Nat → Nat} {e : Nat} {c : Nat → Nat → Prop}
theorem goL_n {f k p q : Nat} {F : Nat → D} (h : ln k p = (q, none)) : goL ln b e (f + 1) k F p = (q, none) := by
  rw [goL, h]
theorem goL_s {f k p q : Nat} {F : Nat → D} {d : D} (h : ln k p = (q, some d)) (g : q < e ∧ b q = 59) : goL ln b e (f + 1) k F p = goL ln b e f (k + 1) (exF F k d) (q + 1) := by
  rw [goL, h]
  exact if_pos g
theorem goL_e {f k p q : Nat} {F : Nat → D} {d : D} (h : ln k p = (q, some d)) (g : ¬ (q < e ∧ b q = 59)) : goL ln b e (f + 1) k F p = (q, some (k + 1, exF F k d)) := by
  rw [goL, h]
  exact if_neg g
abbrev isS {α : Type} (o : Option α) : Int32 := match o with
  | none => 0
  | some _ => 1
theorem goX (XI : Nat → (Nat → D) → PM → Prop) (h17c : c 20 17) (hXI : ∀ k F M q, XI k F M → XI k F (Mp M q)) (he : e ≤ 80)
    (L : Nat → Int32 → Int32 → PM → Option (Int32 × PM)) (rd : PM → Option (Int32 × PM)) (Kc : Int32 → PM → Option (Int32 × PM))
    (hL : ∀ n v2 v3 M, L (n + 1) v2 v3 M = if v3 = 0 then Kc v2 M else bd (rd M) fun v4 M4 => if v4 = 0 then L n v4 0 M4 else bd (x_eats 59 M4) fun v6 M6 => if v6 = 0 then L n v4 0 M6 else L n v4 1 M6)
    (hrd : ∀ k F p M, p ≤ e → XP b e M → M.i 20 17 = zn p → XI k F M → ∃ M', Fq c M M' ∧ XP b e M' ∧ M'.i 20 17 = zn (ln k p).1 ∧ (p ≤ (ln k p).1 ∧ (ln k p).1 ≤ e) ∧ (((ln k p).2 = none ∧ rd M = some (0, M')) ∨ ∃ d, (ln k p).2 = some d ∧ rd M = some (1, M') ∧ XI (k + 1) (exF F k d) M')) :
    ∀ f k F p n M v2, e - p < f → f < n → p ≤ e → XP b e M → M.i 20 17 = zn p → XI k F M → ∃ M', L n v2 1 M = Kc (isS (goL ln b e f k F p).2) M' ∧ Fq c M M' ∧ XP b e M' ∧ M'.i 20 17 = zn (goL ln b e f k F p).1 ∧ (goL ln b e f k F p).1 ≤ e ∧ ∀ k' F', (goL ln b e f k F p).2 = some (k', F') → XI k' F' M' := by
  intro f
  induction f with
  | zero => intro k F p n M v2 h1; exact absurd h1 (by omega)
  | succ f ih =>
    intro k F p n M v2 h1 h2 hp hX h17 hI
    obtain ⟨n, rfl⟩ : ∃ r, n = r + 1 + 1 := ⟨n - 2, by omega⟩
    obtain ⟨M1, f1, X1, i1, ⟨g1, g2⟩, hq⟩ := hrd k F p M hp hX h17 hI
    rw [hL, if_neg (by decide)]
    rcases hr : ln k p with ⟨q, o⟩
    rw [hr] at i1 g1 g2 hq
    simp only at i1 g1 g2 hq
    rcases hq with ⟨q1, q2⟩ | ⟨d, q1, q2, q3⟩
    · subst q1
      rw [goL_n hr, bde q2, if_pos rfl, hL, if_pos rfl]
      exact ⟨M1, rfl, f1, X1, i1, g2, fun k' F' w => by cases w⟩
    · subst q1
      have he59 : x_eats 59 M1 = _ := xp_eats (d := 59) X1 i1 (by omega) (by omega)
      rw [bde q2, if_neg (by decide)]
      by_cases g : q < e ∧ b q = 59
      · rw [if_pos g] at he59
        rw [goL_s hr g, bde he59, if_neg (by decide)]
        obtain ⟨M2, e2, f2, X2, i2, g3, q4⟩ := ih (k + 1) (exF F k d) (q + 1) (n + 1) (Mp M1 (q + 1)) 1 (by omega) (by omega) (by omega) (X1.mp _) (Mp.i17 _ _) (hXI _ _ _ _ q3)
        exact ⟨M2, e2, (f1.tr ((Mp.fq M1 (q + 1)).mo (fun o j w => by rw [w.1, w.2]; exact h17c))).tr f2, X2, i2, g3, q4⟩
      · rw [if_neg g] at he59
        rw [goL_e hr g, bde he59, if_pos rfl, hL, if_pos rfl]
        exact ⟨M1, rfl, f1, X1, i1, g2, fun k' F' w => by cases w; exact q3⟩
theorem goY (YI : Nat → (Nat → D) → PM → Prop) (h17c : c 72 17) (hYI : ∀ k F M q, YI k F M → YI k F (Ma M q)) (he : e ≤ 80)
    (L : Nat → Int32 → Int32 → PM → Option (Int32 × PM)) (body : Nat → PM → Option (Unit × PM)) (Kc : Int32 → PM → Option (Int32 × PM))
    (hL : ∀ n k v2 M, L (n + 1) (zn k) v2 M = if v2 = 0 then Kc (zn k) M else bd (m_fine M) fun v3 M5 => if v3 = 0 then Kc (zn k) M5 else bd (body k M5) fun _ M6 => bd (m_passes 59 M6) fun v5 M7 => L n (zn (k + 1)) v5 M7)
    (hg : ∀ k p, p ≤ e → p ≤ (ln k p).1 ∧ (ln k p).1 ≤ e)
    (hbd : ∀ k F p M, p ≤ e → RC 78 b e M → M.i 72 17 = zn p → YI k F M → ∃ M', body k M = some ((), M') ∧ Fq c M M' ∧ (((ln k p).2 = none ∧ M'.i 72 18 = zn (ln k p).1) ∨ ∃ d, (ln k p).2 = some d ∧ ((RC 78 b e M' ∧ M'.i 72 17 = zn (ln k p).1 ∧ YI (k + 1) (exF F k d) M') ∨ (M'.i 72 18 = zn (ln k p).1 ∧ (ln k p).1 < e ∧ b (ln k p).1 ≠ 59)))) :
    ∀ f k F p n M, e - p < f → f < n → p ≤ e → RC 78 b e M → M.i 72 17 = zn p → YI k F M → ∃ M' k', L n (zn k) 1 M = Kc (zn k') M' ∧ Fq c M M' ∧ (((goL ln b e f k F p).2 = none ∧ M'.i 72 18 = zn (goL ln b e f k F p).1) ∨ ∃ k2 F2, (goL ln b e f k F p).2 = some (k2, F2) ∧ ((k' = k2 ∧ RC 78 b e M' ∧ M'.i 72 17 = zn (goL ln b e f k F p).1 ∧ YI k2 F2 M') ∨ (M'.i 72 18 = zn (goL ln b e f k F p).1 ∧ (goL ln b e f k F p).1 < e))) := by
  intro f
  induction f with
  | zero => intro k F p n M h1; exact absurd h1 (by omega)
  | succ f ih =>
    intro k F p n M h1 h2 hp hX h17 hI
    obtain ⟨n, rfl⟩ : ∃ r, n = r + 1 + 1 := ⟨n - 2, by omega⟩
    obtain ⟨M1, e1, f1, hq⟩ := hbd k F p M hp hX h17 hI
    obtain ⟨g1, g2⟩ := hg k p hp
    rw [hL, if_neg (by decide), bde (ps_fine hX), if_neg (by decide), bde e1]
    rcases hr : ln k p with ⟨q, o⟩
    rw [hr] at g1 g2 hq
    simp only at g1 g2 hq
    rcases hq with ⟨q1, q2⟩ | ⟨d, q1, q2⟩
    · subst q1
      rw [goL_n hr, bde (pf_passes (show q < 1000 by omega) q2 _), hL, if_pos rfl]
      exact ⟨M1, k + 1, rfl, f1, Or.inl ⟨rfl, q2⟩⟩
    · subst q1
      rcases q2 with ⟨q2, q3, q4⟩ | ⟨q2, q3, q4⟩
      · have he59 : m_passes 59 M1 = _ := ps_passes (d := 59) q2 q3 (by omega) (by omega)
        by_cases g : q < e ∧ b q = 59
        · rw [if_pos g] at he59
          rw [goL_s hr g, bde he59]
          obtain ⟨M2, k2, e2, f2, r2⟩ := ih (k + 1) (exF F k d) (q + 1) (n + 1) (Ma M1 (q + 1)) (by omega) (by omega) (by omega) (Ma.rc q2 _) (Ma.i17 _ _) (hYI _ _ _ _ q4)
          exact ⟨M2, k2, e2, (f1.tr ((Ma.fq M1 (q + 1)).mo (fun o j w => by rw [w.1, w.2]; exact h17c))).tr f2, r2⟩
        · rw [if_neg g] at he59
          rw [goL_e hr g, bde he59, hL, if_pos rfl]
          exact ⟨M1, k + 1, rfl, f1, Or.inr ⟨k + 1, exF F k d, rfl, Or.inl ⟨rfl, q2, q3, q4⟩⟩⟩
      · have g : ¬ (q < e ∧ b q = 59) := fun w => q4 w.2
        rw [goL_e hr g, bde (pf_passes (show q < 1000 by omega) q2 _), hL, if_pos rfl]
        exact ⟨M1, k + 1, rfl, f1, Or.inr ⟨k + 1, exF F k d, rfl, Or.inr ⟨q2, q3⟩⟩⟩
end
