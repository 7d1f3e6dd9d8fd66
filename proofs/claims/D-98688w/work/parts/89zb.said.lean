set_option maxRecDepth 100000
/-! SAID: what is left behind a word -/
def takS (C : SV) (L : Nat → Int32) (w : Nat) (c : Int32) : Nat → Int32 := fun v => L v - c * oft C w (zn v)
def nnS (L : Nat → Int32) (k : Nat) : Int32 := itr (fun v s => if s = 0 then 0 else if L v < 0 then 0 else 1) k 1
def zzS (L : Nat → Int32) (k : Nat) : Int32 := itr (fun v s => if s = 0 then 0 else if L v = 0 then 1 else 0) k 1
theorem nnS_01 (L : Nat → Int32) (k : Nat) : nnS L k = 0 ∨ nnS L k = 1 := by
  induction k with
  | zero => exact Or.inr rfl
  | succ k ih =>
    show (if nnS L k = 0 then (0 : Int32) else if L k < 0 then 0 else 1) = 0 ∨ _ = 1
    show (if nnS L k = 0 then (0 : Int32) else if L k < 0 then 0 else 1) = 0 ∨ (if nnS L k = 0 then (0 : Int32) else if L k < 0 then 0 else 1) = 1
    split
    · exact Or.inl rfl
    · split
      · exact Or.inl rfl
      · exact Or.inr rfl
theorem zzS_01 (L : Nat → Int32) (k : Nat) : zzS L k = 0 ∨ zzS L k = 1 := by
  induction k with
  | zero => exact Or.inr rfl
  | succ k ih =>
    show (if zzS L k = 0 then (0 : Int32) else if L k = 0 then 1 else 0) = 0 ∨ (if zzS L k = 0 then (0 : Int32) else if L k = 0 then 1 else 0) = 1
    split
    · exact Or.inl rfl
    · split
      · exact Or.inr rfl
      · exact Or.inl rfl
section
variable {C : SV} {M M1 : PM} {L : Nat → Int32} {w : Nat}
theorem xs_changesLeft (h : CX C M) (hw : w < C.nw) (c : Int32) (hL : ∀ v, v < 5 → M.i 66 v = L v) : ∃ M', x_changesLeft (zn w) c M = some (nnS (takS C L w c) 5, M') ∧ Fq (fun o _ => o = 66) M M' ∧ ∀ v, v < 5 → M'.i 66 v = takS C L w c v := by
  have sc : ∀ q ∈ shR, ¬ q.1 = 66 := by decide +kernel
  unfold x_changesLeft
  refine wlp (fun nn k (s : Int32) M2 => x_changesLeft_L5 (zn w) c nn s (zn k) M2) 5 FU (FU_lt (by omega)) (fun v s => if s = 0 then 0 else if takS C L w c v < 0 then 0 else 1) 1 (fun k M2 => Fq (fun o _ => o = 66) M M2 ∧ (∀ v, v < k → M2.i 66 v = takS C L w c v) ∧ ∀ v, k ≤ v → v < 5 → M2.i 66 v = L v) (fun o => ∃ M', o = some (nnS (takS C L w c) 5, M') ∧ Fq (fun o _ => o = 66) M M' ∧ ∀ v, v < 5 → M'.i 66 v = takS C L w c v) (fun nn k M2 hk hI => ?_) (fun nn M2 hI => ?_) M ⟨Fq.rf, fun v hv => absurd hv (Nat.not_lt_zero v), fun v _ hv => hL v hv⟩
  · obtain ⟨f, i1, i2⟩ := hI
    have x2 : CX C M2 := h.fr f sc (fun o j q => by omega)
    obtain ⟨M3, hM3⟩ : ∃ M3, M3 = M2.si 66 k (takS C L w c k) := ⟨_, rfl⟩
    have e66 : M3.i 66 k = takS C L w c k := by rw [hM3, si_i, if_pos ⟨rfl, rfl⟩]
    have f3 : Fq (fun o _ => o = 66) M2 M3 := by rw [hM3]; exact Fq.si (c := fun o _ => o = 66) Fq.rf rfl
    refine ⟨M3, ⟨f.tr f3, fun v hv => ?_, fun v h1 h2 => ?_⟩, ?_⟩
    · by_cases e : v = k
      · rw [e]; exact e66
      · rw [hM3, si_i, if_neg (by omega)]; exact i1 v (by omega)
    · rw [hM3, si_i, if_neg (by omega)]; exact i2 v (by omega) h2
    · generalize itr (fun v s => if s = 0 then 0 else if takS C L w c v < 0 then 0 else 1) k (1 : Int32) = s
      show x_changesLeft_L5 (zn w) c (nn + 1) s (zn k) M2 = x_changesLeft_L5 (zn w) c nn (if s = 0 then 0 else if takS C L w c k < 0 then 0 else 1) (zn (k + 1)) M3
      rw [x_changesLeft_L5, if_neg (by rw [l_le_zn (by omega) (by omega)]; omega), ck_zn (by omega) (by omega), bde (xs_vowelIn x2 hw (zn k)), ck_zn (by omega) (by omega), ix_zn (by omega), i2 k (Nat.le_refl _) hk, lt_u]
      simp only [jn_u, lt_u, zn_addl]
      rw [ck_zn (by omega) (by omega)]
      show (if s = 0 then _ else if (M2.si 66 k (takS C L w c k)).i 66 k < 0 then _ else _) = _
      rw [← hM3, e66]
      by_cases g : s = 0
      · rw [if_pos g, if_pos g, hM3]; rfl
      · rw [if_neg g, if_neg g]
        by_cases g2 : takS C L w c k < 0
        · rw [if_pos g2, if_pos g2, hM3]; rfl
        · rw [if_neg g2, if_neg g2, hM3]; rfl
  · obtain ⟨f, i1, i2⟩ := hI
    refine ⟨M2, ?_, f, i1⟩
    show x_changesLeft_L5 (zn w) c (nn + 1) (nnS (takS C L w c) 5) (zn 5) M2 = _
    rw [x_changesLeft_L5, if_pos (by decide), ckb_t (nnS_01 _ _)]
theorem xs_isNothingLeft (hL : ∀ v, v < 5 → M.i 66 v = L v) : x_isNothingLeft M = some (zzS L 5, M) := by
  unfold x_isNothingLeft
  refine nlp (fun nn k s => x_isNothingLeft_L4 nn s (zn k) M) 5 FU (FU_lt (by omega)) (fun v s => if s = 0 then 0 else if L v = 0 then 1 else 0) 1 _ (fun nn k hk => ?_) (fun nn => ?_)
  · generalize itr (fun v s => if s = 0 then 0 else if L v = 0 then 1 else 0) k (1 : Int32) = s
    show x_isNothingLeft_L4 (nn + 1) s (zn k) M = x_isNothingLeft_L4 nn (if s = 0 then 0 else if L k = 0 then 1 else 0) (zn (k + 1)) M
    rw [x_isNothingLeft_L4, if_neg (by rw [l_le_zn (by omega) (by omega)]; omega)]
    simp only [jn_u, lt_u, zn_addl]
    rw [ck_zn (by omega) (by omega), ix_zn (by omega), hL k hk]
    by_cases g : s = 0
    · rw [if_pos g, if_pos g]
    · rw [if_neg g, if_neg g]
      by_cases g2 : L k = 0
      · rw [if_pos g2, if_pos g2]
      · rw [if_neg g2, if_neg g2]
  · show x_isNothingLeft_L4 (nn + 1) (zzS L 5) (zn 5) M = _
    rw [x_isNothingLeft_L4, if_pos (by decide), ckb_t (zzS_01 _ _)]
theorem ms_take (h : CY 83 C M) (hw : w < C.nw) (c : Int32) (hL : ∀ v, v < 5 → M.i 97 v = L v) : ∃ M', m_take (zn w) c M = some ((), M') ∧ Fq (fun o _ => o = 97) M M' ∧ ∀ v, v < 5 → M'.i 97 v = takS C L w c v := by
  have sc : ∀ q ∈ shR, ¬ q.1 = 97 := by decide +kernel
  unfold m_take
  refine wlp (fun nn k (_ : Unit) M2 => m_take_L2 (zn w) c nn (zn k) M2) 5 FU (FU_lt (by omega)) (fun _ s => s) () (fun k M2 => Fq (fun o _ => o = 97) M M2 ∧ (∀ v, v < k → M2.i 97 v = takS C L w c v) ∧ ∀ v, k ≤ v → v < 5 → M2.i 97 v = L v) (fun o => ∃ M', o = some ((), M') ∧ Fq (fun o _ => o = 97) M M' ∧ ∀ v, v < 5 → M'.i 97 v = takS C L w c v) (fun nn k M2 hk hI => ?_) (fun nn M2 hI => ?_) M ⟨Fq.rf, fun v hv => absurd hv (Nat.not_lt_zero v), fun v _ hv => hL v hv⟩
  · obtain ⟨f, i1, i2⟩ := hI
    have x2 : CY 83 C M2 := h.fr f sc (fun o j q => by omega)
    obtain ⟨M3, hM3⟩ : ∃ M3, M3 = M2.si 97 k (takS C L w c k) := ⟨_, rfl⟩
    have f3 : Fq (fun o _ => o = 97) M2 M3 := by rw [hM3]; exact Fq.si (c := fun o _ => o = 97) Fq.rf rfl
    refine ⟨M3, ⟨f.tr f3, fun v hv => ?_, fun v h1 h2 => ?_⟩, ?_⟩
    · by_cases e : v = k
      · rw [e, hM3, si_i, if_pos ⟨rfl, rfl⟩]
      · rw [hM3, si_i, if_neg (by omega)]; exact i1 v (by omega)
    · rw [hM3, si_i, if_neg (by omega)]; exact i2 v (by omega) h2
    · show m_take_L2 (zn w) c (nn + 1) (zn k) M2 = m_take_L2 (zn w) c nn (zn (k + 1)) M3
      rw [m_take_L2, if_neg (by rw [l_le_zn (by omega) (by omega)]; omega), ck_zn (by omega) (by omega), bde (ms_often x2 hw (zn k)), ck_zn (by omega) (by omega), ix_zn (by omega), i2 k (Nat.le_refl _) hk, lt_u, zn_addl, lt_u, hM3]
      rfl
  · obtain ⟨f, i1, i2⟩ := hI
    refine ⟨M2, ?_, f, i1⟩
    show m_take_L2 (zn w) c (nn + 1) (zn 5) M2 = _
    rw [m_take_L2, if_pos (by decide)]
end
