set_option maxRecDepth 100000
/-! TRIPS: the reference walks on -/
def nxY (ns : Nat) (G : Nat → Nat → Nat) (s T : Nat) : Nat :=
  let a := if s ≤ 0 then G s T else min (G s T) (G (s - 1) T)
  if ns ≤ s + 1 then a else min a (G (s + 1) T)
section
variable {C : SV} {A : Nat → Int32} {M M1 : PM} {t s0 U0 h s w : Nat}
theorem nxY_is (hC : OKC C) (hs0 : s0 < C.ns) (hU0 : U0 < 256) {G : Nat → Nat → Nat} (hG : ∀ s', s' < C.ns → LR IY 256 (PY C A t s0 U0 h s') (G s')) (hs : s < C.ns) : LR IY 256 (AY C A t s0 U0 (h + 1) s) (nxY C.ns G s) := by
  intro T hT
  have b3 := p2_256 hC.ne8
  have hns : ∀ {h s T c}, PY C A t s0 U0 h s T c → s < C.ns := fun p => (PX.ok (t := t) (A := A) hC hs0 (N := 8) hC.ne8 hU0 p).1
  have y1 : isY IY (PY C A t s0 U0 h s T) (G s T) := hG s hs T hT
  have y2 : isY IY (fun c => PY C A t s0 U0 h s T c ∨ (0 < s ∧ PY C A t s0 U0 h (s - 1) T c)) (if s ≤ 0 then G s T else min (G s T) (G (s - 1) T)) := by
    by_cases g : s ≤ 0
    · rw [if_pos g]
      exact y1.iff (fun c => ⟨Or.inl, fun w => w.resolve_right (fun q => by omega)⟩)
    · rw [if_neg g]
      have y3 : isY IY (PY C A t s0 U0 h (s - 1) T) (G (s - 1) T) := hG (s - 1) (by omega) T hT
      exact (isY.min y1 y3).iff (fun c => ⟨fun w => w.imp id (fun q => ⟨by omega, q⟩), fun w => w.imp id (fun q => q.2)⟩)
  show isY IY (AY C A t s0 U0 (h + 1) s T) (nxY C.ns G s T)
  have e3 : ∀ c, AY C A t s0 U0 (h + 1) s T c ↔ _ := fun c => AR.three hns hs
  unfold nxY
  show isY IY _ (if C.ns ≤ s + 1 then (if s ≤ 0 then G s T else min (G s T) (G (s - 1) T)) else min (if s ≤ 0 then G s T else min (G s T) (G (s - 1) T)) (G (s + 1) T))
  by_cases g : C.ns ≤ s + 1
  · rw [if_pos g]
    exact y2.iff (fun c => by
      rw [e3]
      exact ⟨Or.inl, fun w => w.resolve_right (fun q => by omega)⟩)
  · rw [if_neg g]
    have y3 : isY IY (PY C A t s0 U0 h (s + 1) T) (G (s + 1) T) := hG (s + 1) (by omega) T hT
    exact (isY.min y2 y3).iff (fun c => by
      rw [e3]
      exact ⟨fun w => w.imp id (fun q => ⟨by omega, q⟩), fun w => w.imp id (fun q => q.2)⟩)
theorem nxY_le {ns : Nat} {G : Nat → Nat → Nat} {T : Nat} (h1 : G s T ≤ IY) : nxY ns G s T ≤ IY := by
  unfold nxY
  show (if ns ≤ s + 1 then (if s ≤ 0 then G s T else min (G s T) (G (s - 1) T)) else min (if s ≤ 0 then G s T else min (G s T) (G (s - 1) T)) (G (s + 1) T)) ≤ IY
  have h1' : G s T ≤ 100000000 := h1
  show _ ≤ 100000000
  repeat' split
  all_goals omega
theorem ms_move1 {G : Nat → Nat → Nat} (hle : ∀ s, s < C.ns → ∀ T, T < 256 → G s T ≤ IY) (Kc : PM → Option (Unit × PM)) : ∀ d i F M, i + d = 1536 → d < F → CY 83 C M → taY C G M → (∀ s T, s < C.ns → T < 256 → 256 * s + T < i → M.i 95 (256 * s + T) = zn (nxY C.ns G s T)) →
    ∃ M', m_move_L2 Kc F (zn i) M = Kc M' ∧ Fq (fun o _ => o = 95) M M' ∧ ∀ s T, s < C.ns → T < 256 → M'.i 95 (256 * s + T) = zn (nxY C.ns G s T) := by
  have sc : ∀ q ∈ shR, ¬ q.1 = 95 := by decide +kernel
  intro d
  induction d with
  | zero =>
    intro i F M hi hF hy hT hN
    obtain ⟨F, rfl⟩ : ∃ m, F = m + 1 := ⟨F - 1, by omega⟩
    have b2 := hy.ok.ns6
    have k95 := kd95 hy.sh
    refine ⟨M, ?_, Fq.rf, fun s T h1 h2 => hN s T h1 h2 (by omega)⟩
    rw [m_move_L2, k95, if_pos (by show zn 1536 ≤ zn i; rw [zn_le (by omega) (by omega)]; omega)]
  | succ d ih =>
    intro i F M hi hF hy hT hN
    obtain ⟨F, rfl⟩ : ∃ m, F = m + 1 := ⟨F - 1, by omega⟩
    have b2 := hy.ok.ns6
    have b1 := hy.ok.ns1
    have k95 := kd95 hy.sh
    have ediv : zn i / (256 : Int32) = zn (i / 256) := zn_div (b := 256) (by omega) (by omega)
    have next : ∀ v, (i / 256 < C.ns → v = zn (nxY C.ns G (i / 256) (i % 256))) → ∃ M', m_move_L2 Kc F (zn (i + 1)) (M.si 95 i v) = Kc M' ∧ Fq (fun o _ => o = 95) M M' ∧ ∀ s T, s < C.ns → T < 256 → M'.i 95 (256 * s + T) = zn (nxY C.ns G s T) := by
      intro v hv
      obtain ⟨N, hNe⟩ : ∃ N, N = M.si 95 i v := ⟨_, rfl⟩
      have fN : Fq (fun o _ => o = 95) M N := by rw [hNe]; exact Fq.si (c := fun o _ => o = 95) Fq.rf rfl
      rw [← hNe]
      obtain ⟨M3, e3, f3, r3⟩ := ih (i + 1) F N (by omega) (by omega) (hy.fr fN sc (fun o j q => by omega)) (fun s hs T hT' => by rw [fN.i _ _ (by omega)]; exact hT s hs T hT') (fun s T h1 h2 h3 => by
        rw [hNe, si_i]
        by_cases e : 256 * s + T = i
        · have q1 : i / 256 = s := by omega
          have q2 : i % 256 = T := by omega
          rw [if_pos ⟨rfl, e⟩, hv (by omega), q1, q2]
        · rw [if_neg (fun w => e w.2)]; exact hN s T h1 h2 (by omega))
      exact ⟨M3, e3, fN.tr f3, r3⟩
    have hun : m_move_L2 Kc (F + 1) (zn i) M = (if zn (i / 256) ≤ 0 then
        (if zn C.ns ≤ zn (i / 256) + 1 then m_move_L2 Kc F (zn (i + 1)) (M.si 95 i (if zn C.ns ≤ zn (i / 256) then 100000000 else M.i 94 i)) else ck (zn i + 256) 1536 <| m_move_L2 Kc F (zn (i + 1)) (M.si 95 i (if zn C.ns ≤ zn (i / 256) then 100000000 else imin (M.i 94 i) (M.i 94 (ix (zn i + 256))))))
      else ck (zn i - 256) 1536 <| (if zn C.ns ≤ zn (i / 256) + 1 then m_move_L2 Kc F (zn (i + 1)) (M.si 95 i (if zn C.ns ≤ zn (i / 256) then 100000000 else imin (M.i 94 i) (M.i 94 (ix (zn i - 256))))) else ck (zn i + 256) 1536 <| m_move_L2 Kc F (zn (i + 1)) (M.si 95 i (if zn C.ns ≤ zn (i / 256) then 100000000 else imin (imin (M.i 94 i) (M.i 94 (ix (zn i - 256)))) (M.i 94 (ix (zn i + 256))))))) := by
      rw [m_move_L2, k95, if_neg (by show ¬ zn 1536 ≤ zn i; rw [zn_le (by omega) (by omega)]; omega), ckb256, ediv, lt_u, ck_zn (by omega) (by omega), ix_zn (by omega), lt_u]
      simp only [jn_u, lt_u]
      rw [hy.ns]
      simp only [ck_zn (show i < 1536 by omega) (show i < 2147483648 by omega), zn_addl]
    rw [hun]
    have es1 : zn (i / 256) + 1 = zn (i / 256 + 1) := zn_addl _ 1
    have ep : zn i + 256 = zn (i + 256) := zn_addl i 256
    have p0 : (zn (i / 256) ≤ 0) = (i / 256 ≤ 0) := by
      have := zn_le (a := i / 256) (b := 0) (by omega) (by omega)
      exact this
    rw [es1, ep]
    simp only [zn_le (show C.ns < 2147483648 by omega) (show i / 256 + 1 < 2147483648 by omega), zn_le (show C.ns < 2147483648 by omega) (show i / 256 < 2147483648 by omega), p0]
    have hv0 : i / 256 < C.ns → M.i 94 i = zn (G (i / 256) (i % 256)) := fun q => by
      have := hT (i / 256) q (i % 256) (by omega)
      rw [show 256 * (i / 256) + i % 256 = i by omega] at this
      exact this
    have l0 : i / 256 < C.ns → G (i / 256) (i % 256) ≤ 100000000 := fun q => hle _ q _ (by omega)
    by_cases g1 : i / 256 ≤ 0
    · rw [if_pos g1]
      by_cases g2 : C.ns ≤ i / 256 + 1
      · rw [if_pos g2]
        refine next _ (fun q => ?_)
        rw [if_neg (by omega), hv0 q]
        unfold nxY
        simp only
        rw [if_pos g1, if_pos g2]
      · rw [if_neg g2, ck_zn (by omega) (by omega), ix_zn (by omega)]
        refine next _ (fun q => ?_)
        have hv1 := hT (i / 256 + 1) (by omega) (i % 256) (by omega)
        rw [show 256 * (i / 256 + 1) + i % 256 = i + 256 by omega] at hv1
        have l1 : G (i / 256 + 1) (i % 256) ≤ 100000000 := hle _ (by omega) _ (by omega)
        have l0' := l0 q
        rw [if_neg (by omega), hv0 q, hv1, imin_zn (by omega) (by omega)]
        unfold nxY
        simp only
        rw [if_pos g1, if_neg g2]
    · have em : zn i - 256 = zn (i - 256) := zn_subl (n := 256) (show 256 ≤ i by omega)
      rw [if_neg g1, em, ck_zn (by omega) (by omega), ix_zn (by omega)]
      have hvm : i / 256 < C.ns → M.i 94 (i - 256) = zn (G (i / 256 - 1) (i % 256)) := fun q => by
        have := hT (i / 256 - 1) (by omega) (i % 256) (by omega)
        rw [show 256 * (i / 256 - 1) + i % 256 = i - 256 by omega] at this
        exact this
      have lm : i / 256 < C.ns → G (i / 256 - 1) (i % 256) ≤ 100000000 := fun q => hle _ (by omega) _ (by omega)
      by_cases g2 : C.ns ≤ i / 256 + 1
      · rw [if_pos g2]
        refine next _ (fun q => ?_)
        have l0' := l0 q
        have lm' := lm q
        rw [if_neg (by omega), hv0 q, hvm q, imin_zn (by omega) (by omega)]
        unfold nxY
        simp only
        rw [if_neg g1, if_pos g2]
      · rw [if_neg g2, ck_zn (by omega) (by omega), ix_zn (by omega)]
        refine next _ (fun q => ?_)
        have hv1 := hT (i / 256 + 1) (by omega) (i % 256) (by omega)
        rw [show 256 * (i / 256 + 1) + i % 256 = i + 256 by omega] at hv1
        have l1 : G (i / 256 + 1) (i % 256) ≤ 100000000 := hle _ (by omega) _ (by omega)
        have l0' := l0 q
        have lm' := lm q
        rw [if_neg (by omega), hv0 q, hvm q, hv1, imin_zn (by omega) (by omega), imin_zn (by omega) (by omega)]
        unfold nxY
        simp only
        rw [if_neg g1, if_neg g2]
theorem ms_move2 : ∀ d i F (M M0 : PM), i + d = 1536 → d < F → Sh M → (∀ j, M.i 95 j = M0.i 95 j) → (∀ j, j < i → M.i 94 j = M0.i 95 j) → ∃ M', m_move_L97 F (zn i) M = some ((), M') ∧ Fq (fun o _ => o = 94) M M' ∧ ∀ j, j < 1536 → M'.i 94 j = M0.i 95 j := by
  have sc : ∀ q ∈ shR, ¬ q.1 = 94 := by decide +kernel
  intro d
  induction d with
  | zero =>
    intro i F M M0 hi hF hS h95 h94
    obtain ⟨F, rfl⟩ : ∃ m, F = m + 1 := ⟨F - 1, by omega⟩
    have k94 := kd94 hS
    refine ⟨M, ?_, Fq.rf, fun j q => h94 j (by omega)⟩
    rw [m_move_L97, k94, if_pos (by show zn 1536 ≤ zn i; rw [zn_le (by omega) (by omega)]; omega)]
  | succ d ih =>
    intro i F M M0 hi hF hS h95 h94
    obtain ⟨F, rfl⟩ : ∃ m, F = m + 1 := ⟨F - 1, by omega⟩
    have k94 := kd94 hS
    obtain ⟨N, hN⟩ : ∃ N, N = M.si 94 i (M.i 95 i) := ⟨_, rfl⟩
    have fN : Fq (fun o _ => o = 94) M N := by rw [hN]; exact Fq.si (c := fun o _ => o = 94) Fq.rf rfl
    obtain ⟨M3, e3, f3, r3⟩ := ih (i + 1) F N M0 (by omega) (by omega) (hS.fr fN sc) (fun j => by rw [fN.i _ _ (by omega)]; exact h95 j) (fun j q => by
      rw [hN, si_i]
      by_cases e : j = i
      · rw [if_pos ⟨rfl, e⟩, e]; exact h95 i
      · rw [if_neg (fun w => e w.2)]; exact h94 j (by omega))
    refine ⟨M3, ?_, fN.tr f3, r3⟩
    rw [m_move_L97, k94, if_neg (by show ¬ zn 1536 ≤ zn i; rw [zn_le (by omega) (by omega)]; omega), ck_zn (by omega) (by omega), ck_zn (by omega) (by omega), ix_zn (by omega), ← hN, lt_u, lt_u, zn_addl, e3]
theorem ms_move {G : Nat → Nat → Nat} (hle : ∀ s, s < C.ns → ∀ T, T < 256 → G s T ≤ IY) (hy : CY 83 C M) (hT : taY C G M) : ∃ M', m_move M = some ((), M') ∧ Fq tcY M M' ∧ taY C (nxY C.ns G) M' := by
  have b2 := hy.ok.ns6
  obtain ⟨Kd, hKd⟩ : ∃ Kd : PM → Option (Unit × PM), Kd = (fun (M5 : PM) => m_move_L97 FU 0 M5) := ⟨_, rfl⟩
  obtain ⟨M2, e2, f2, r2⟩ := ms_move1 hle Kd 1536 0 FU M (by omega) (FU_lt (by omega)) hy hT (fun s T _ _ q => absurd q (Nat.not_lt_zero _))
  have e2' : m_move_L2 Kd FU 0 M = _ := e2
  have f2t : Fq tcY M M2 := f2.mo (fun o j q => Or.inr (Or.inr q))
  obtain ⟨M3, e3, f3, r3⟩ := ms_move2 1536 0 FU M2 M2 (by omega) (FU_lt (by omega)) (hy.tc f2t).sh (fun j => rfl) (fun j q => absurd q (Nat.not_lt_zero j))
  refine ⟨M3, ?_, f2t.tr (f3.mo (fun o j q => Or.inr (Or.inl q))), fun s hs T hT' => ?_⟩
  · unfold m_move
    rw [← hKd, e2', hKd]
    exact e3
  · rw [r3 _ (by omega)]; exact r2 s T hs hT'
end
