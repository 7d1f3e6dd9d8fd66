set_option maxRecDepth 100000
/-! JOURNEYS: all acts are read -/
section
variable {b : Nat → Nat} {e : Nat}
abbrev glJ (b : Nat → Nat) (e f k : Nat) (F : Nat → DJ) (p : Nat) : Nat × Option (Nat × (Nat → DJ)) := goL (fun _ p => lnJ b e p) b e f k F p
theorem goXJ (he : e ≤ 80) (L : Nat → Int32 → Int32 → PM → Option (Int32 × PM)) (Kc : Int32 → PM → Option (Int32 × PM))
    (hL : ∀ n v2 v3 M, L (n + 1) v2 v3 M = if v3 = 0 then Kc v2 M else bd (x_readsAct M) fun v4 M4 => if v4 = 0 then L n v4 0 M4 else bd (x_eats 59 M4) fun v6 M6 => if v6 = 0 then L n v4 0 M6 else L n v4 1 M6) :
    ∀ f k F p n M v2, e - p < f → f < n → p ≤ e → 3 * k ≤ p → XP b e M → M.i 20 17 = zn p → xiJ k F M → ∃ M', L n v2 1 M = Kc (isS (glJ b e f k F p).2) M' ∧ Fq cjX M M' ∧ XP b e M' ∧ M'.i 20 17 = zn (glJ b e f k F p).1 ∧ (glJ b e f k F p).1 ≤ e ∧ ∀ k' F', (glJ b e f k F p).2 = some (k', F') → xiJ k' F' M' ∧ 3 * k' ≤ e + 1 := by
  intro f
  induction f with
  | zero => intro k F p n M v2 h1; exact absurd h1 (by omega)
  | succ f ih =>
    intro k F p n M v2 h1 h2 hp h3 hX h17 hI
    obtain ⟨n, rfl⟩ : ∃ r, n = r + 1 + 1 := ⟨n - 2, by omega⟩
    obtain ⟨M1, f1, X1, i1, ⟨g1, g2⟩, hq⟩ := xs_readsJ he (show k < 40 by omega) hp hX h17 hI
    rw [hL, if_neg (by decide)]
    have hok : ∀ q d, lnJ b e p = (q, some d) → p + 2 ≤ q := fun q d w => (lnJ_ok w).1
    rcases hr : lnJ b e p with ⟨q, o⟩
    rw [hr] at i1 g1 g2 hq
    simp only at i1 g1 g2 hq
    rcases hq with ⟨q1, q2⟩ | ⟨d, q1, q2, q3⟩
    · subst q1
      have hg : glJ b e (f + 1) k F p = (q, none) := goL_n (ln := fun _ p => lnJ b e p) hr
      rw [hg, bde q2, if_pos rfl, hL, if_pos rfl]
      exact ⟨M1, rfl, f1, X1, i1, g2, fun k' F' w => by cases w⟩
    · subst q1
      have h4 := hok q d hr
      have he59 : x_eats 59 M1 = _ := xp_eats (d := 59) X1 i1 (by omega) (by omega)
      rw [bde q2, if_neg (by decide)]
      by_cases g : q < e ∧ b q = 59
      · rw [if_pos g] at he59
        have hg : glJ b e (f + 1) k F p = glJ b e f (k + 1) (exF F k d) (q + 1) := goL_s (ln := fun _ p => lnJ b e p) hr g
        rw [hg, bde he59, if_neg (by decide)]
        obtain ⟨M2, e2, f2, X2, i2, g3, q4⟩ := ih (k + 1) (exF F k d) (q + 1) (n + 1) (Mp M1 (q + 1)) 1 (by omega) (by omega) (by omega) (by omega) (X1.mp _) (Mp.i17 _ _) ⟨((Mp.fq M1 (q + 1)).i _ _ (by omega)).trans q3.1, fun i hi => by
          obtain ⟨w1, w2, w3⟩ := q3.2 i hi
          exact ⟨w1, ((Mp.fq M1 (q + 1)).i _ _ (by omega)).trans w2, ((Mp.fq M1 (q + 1)).i _ _ (by omega)).trans w3⟩⟩
        exact ⟨M2, e2, (f1.tr ((Mp.fq M1 (q + 1)).mo (fun o j w => Or.inr ⟨w.1, Or.inl w.2⟩))).tr f2, X2, i2, g3, q4⟩
      · rw [if_neg g] at he59
        have hg : glJ b e (f + 1) k F p = (q, some (k + 1, exF F k d)) := goL_e (ln := fun _ p => lnJ b e p) hr g
        rw [hg, bde he59, if_pos rfl, hL, if_pos rfl]
        exact ⟨M1, rfl, f1, X1, i1, g2, fun k' F' w => by cases w; exact ⟨q3, by omega⟩⟩
theorem goYJ (he : e ≤ 80) (L : Nat → Int32 → Int32 → PM → Option (Int32 × PM)) (Kc : Int32 → PM → Option (Int32 × PM))
    (hL : ∀ n k v2 M, L (n + 1) (zn k) v2 M = if v2 = 0 then Kc (zn k) M else bd (m_fine M) fun v3 M5 => if v3 = 0 then Kc (zn k) M5 else bd (m_readAct (3 * zn k) M5) fun _ M6 => bd (m_passes 59 M6) fun v5 M7 => L n (zn (k + 1)) v5 M7) :
    ∀ f k F p n M, e - p < f → f < n → p ≤ e → 3 * k ≤ p → RC 78 b e M → M.i 72 17 = zn p → yiJ k F M → ∃ M' k', L n (zn k) 1 M = Kc (zn k') M' ∧ Fq cjY M M' ∧ (((glJ b e f k F p).2 = none ∧ M'.i 72 18 = zn (glJ b e f k F p).1) ∨ ∃ k2 F2, (glJ b e f k F p).2 = some (k2, F2) ∧ k' = k2 ∧ RC 78 b e M' ∧ M'.i 72 17 = zn (glJ b e f k F p).1 ∧ yiJ k2 F2 M') := by
  intro f
  induction f with
  | zero => intro k F p n M h1; exact absurd h1 (by omega)
  | succ f ih =>
    intro k F p n M h1 h2 hp h3 hX h17 hI
    obtain ⟨n, rfl⟩ : ∃ r, n = r + 1 + 1 := ⟨n - 2, by omega⟩
    obtain ⟨M1, e1, f1, hq⟩ := ms_readsJ he (show k < 60 by omega) hp hX h17 hI
    obtain ⟨g1, g2⟩ := lnJ_ge b e p hp
    rw [hL, if_neg (by decide), bde (ps_fine hX), if_neg (by decide), bde e1]
    have hok : ∀ q d, lnJ b e p = (q, some d) → p + 2 ≤ q := fun q d w => (lnJ_ok w).1
    rcases hr : lnJ b e p with ⟨q, o⟩
    rw [hr] at g1 g2 hq
    simp only at g1 g2 hq
    rcases hq with ⟨q1, q2⟩ | ⟨d, q1, q2, q3, q4⟩
    · subst q1
      have hg : glJ b e (f + 1) k F p = (q, none) := goL_n (ln := fun _ p => lnJ b e p) hr
      rw [hg, bde (pf_passes (show q < 1000 by omega) q2 _), hL, if_pos rfl]
      exact ⟨M1, k + 1, rfl, f1, Or.inl ⟨rfl, q2⟩⟩
    · subst q1
      have h4 := hok q d hr
      have he59 : m_passes 59 M1 = _ := ps_passes (d := 59) q2 q3 (by omega) (by omega)
      by_cases g : q < e ∧ b q = 59
      · rw [if_pos g] at he59
        have hg : glJ b e (f + 1) k F p = glJ b e f (k + 1) (exF F k d) (q + 1) := goL_s (ln := fun _ p => lnJ b e p) hr g
        rw [hg, bde he59]
        have fq := Ma.fq M1 (q + 1)
        obtain ⟨M2, k2, e2, f2, r2⟩ := ih (k + 1) (exF F k d) (q + 1) (n + 1) (Ma M1 (q + 1)) (by omega) (by omega) (by omega) (by omega) (Ma.rc q2 _) (Ma.i17 _ _) (fun i hi => by
          obtain ⟨w1, w2, w3, w4⟩ := q4 i hi
          exact ⟨w1, (fq.i _ _ (by omega)).trans w2, (fq.i _ _ (by omega)).trans w3, fun w => (fq.i _ _ (by omega)).trans (w4 w)⟩)
        exact ⟨M2, k2, e2, (f1.tr (fq.mo (fun o j w => Or.inr ⟨w.1, Or.inl w.2⟩))).tr f2, r2⟩
      · rw [if_neg g] at he59
        have hg : glJ b e (f + 1) k F p = (q, some (k + 1, exF F k d)) := goL_e (ln := fun _ p => lnJ b e p) hr g
        rw [hg, bde he59, hL, if_pos rfl]
        exact ⟨M1, k + 1, rfl, f1, Or.inr ⟨k + 1, exF F k d, rfl, rfl, q2, q3, q4⟩⟩
theorem glJ_ok {q k' : Nat} {F' : Nat → DJ} : ∀ f k F p, 3 * k ≤ p → p ≤ e → (∀ i, i < k → okJ (F i)) → glJ b e f k F p = (q, some (k', F')) → 3 * k' ≤ e + 1 ∧ (∀ i, i < k' → okJ (F' i)) ∧ 1 ≤ k' := by
  intro f
  induction f with
  | zero => intro k F p h1 h2 h3 h4; cases h4
  | succ f ih =>
    intro k F p h1 h2 h3 h4
    obtain ⟨g1, g2⟩ := lnJ_ge b e p h2
    rcases hr : lnJ b e p with ⟨r, o⟩
    rw [hr] at g1 g2
    simp only at g1 g2
    cases o with
    | none =>
      have hg : glJ b e (f + 1) k F p = (r, none) := goL_n (ln := fun _ p => lnJ b e p) hr
      rw [hg] at h4; cases h4
    | some d =>
      obtain ⟨w1, w2⟩ := lnJ_ok hr
      have h5 : ∀ i, i < k + 1 → okJ (exF F k d i) := fun i hi => by
        unfold exF
        by_cases ei : i = k
        · rw [if_pos ei]; exact w2
        · rw [if_neg ei]; exact h3 i (by omega)
      by_cases g : r < e ∧ b r = 59
      · have hg : glJ b e (f + 1) k F p = glJ b e f (k + 1) (exF F k d) (r + 1) := goL_s (ln := fun _ p => lnJ b e p) hr g
        rw [hg] at h4
        exact ih (k + 1) (exF F k d) (r + 1) (by omega) (by omega) h5 h4
      · have hg : glJ b e (f + 1) k F p = (r, some (k + 1, exF F k d)) := goL_e (ln := fun _ p => lnJ b e p) hr g
        rw [hg] at h4
        cases h4
        exact ⟨by omega, h5, by omega⟩
end
