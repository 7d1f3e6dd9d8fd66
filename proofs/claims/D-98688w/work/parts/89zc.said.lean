set_option maxRecDepth 100000
/-! SAID: is all taken -/
section
variable {C : SV} {M M1 : PM} {L : Nat → Int32} {w : Nat}
theorem zzS_1 (L : Nat → Int32) : ∀ k, (∀ v, v < k → L v = 0) → zzS L k = 1 := by
  intro k
  induction k with
  | zero => intro _; rfl
  | succ k ih =>
    intro h
    show (if zzS L k = 0 then (0 : Int32) else if L k = 0 then 1 else 0) = 1
    rw [ih (fun v hv => h v (by omega)), if_neg (by decide), if_pos (h k (by omega))]
theorem zzS_0 (L : Nat → Int32) : ∀ k v, v < k → L v ≠ 0 → zzS L k = 0 := by
  intro k
  induction k with
  | zero => intro v hv; exact absurd hv (Nat.not_lt_zero v)
  | succ k ih =>
    intro v hv h
    show (if zzS L k = 0 then (0 : Int32) else if L k = 0 then 1 else 0) = 0
    by_cases e : v = k
    · subst e
      by_cases g : zzS L v = 0
      · rw [if_pos g]
      · rw [if_neg g, if_neg h]
    · rw [ih v (by omega) h, if_pos rfl]
theorem ms_isAll (h : Sh M) (hL : ∀ v, v < 5 → M.i 97 v = L v) : m_isAll M = some (zzS L 5, M) := by
  have k97 := kd97 h
  have go : ∀ d k f, k + d = 5 → d < f → (∀ v, v < k → L v = 0) → m_isAll_L10 (zn 5) f (zn k) M = some (zzS L 5, M) := by
    intro d
    induction d with
    | zero =>
      intro k f hk hf h0
      obtain ⟨f, rfl⟩ : ∃ m, f = m + 1 := ⟨f - 1, by omega⟩
      rw [m_isAll_L10, if_pos (by rw [zn_le (by omega) (by omega)]; omega), zzS_1 L 5 (fun v hv => h0 v (by omega))]
    | succ d ih =>
      intro k f hk hf h0
      obtain ⟨f, rfl⟩ : ∃ m, f = m + 1 := ⟨f - 1, by omega⟩
      rw [m_isAll_L10, if_neg (by rw [zn_le (by omega) (by omega)]; omega), ck_zn (by omega) (by omega), ix_zn (by omega), hL k (by omega), lt_u]
      by_cases g : L k = 0
      · rw [if_pos g, zn_addl, lt_u]
        exact ih (k + 1) f (by omega) (by omega) (fun v hv => by
          by_cases e : v = k
          · rw [e]; exact g
          · exact h0 v (by omega))
      · rw [if_neg g, zzS_0 L 5 k (by omega) g]
  unfold m_isAll
  rw [k97, lt_u]
  exact go 5 0 FU rfl (FU_lt (by omega)) (fun v hv => absurd hv (Nat.not_lt_zero v))
end
