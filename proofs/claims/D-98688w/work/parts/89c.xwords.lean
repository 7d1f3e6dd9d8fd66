set_option maxRecDepth 100000
/-! WORDS: the system reads them -/
def isaz (c : Nat) : Bool := decide (97 ≤ c) && decide (c ≤ 122)
def lnl (b : Nat → Nat) (e : Nat) : Nat → Nat → Nat
  | 0, _ => 0
  | d + 1, p => if p < e ∧ isaz (b p) = true then lnl b e d (p + 1) + 1 else 0
abbrev DW : Type := Nat × Int32 × Nat × (Nat → Nat)
def okW (d : DW) : Prop := d.1 ≤ 9 ∧ (d.2.1 = -1 ∨ ∃ x, x ≤ 9 ∧ d.2.1 = zn x) ∧ (1 ≤ d.2.2.1 ∧ d.2.2.1 ≤ 6) ∧ ∀ j, j < d.2.2.1 → d.2.2.2 j < 26
def sgd (b : Nat → Nat) (e p : Nat) : Int32 := if p < e ∧ isd (b p) = true then zn (b p - 48) else -1
def sgq (b : Nat → Nat) (e p : Nat) : Nat := if p < e ∧ isd (b p) = true then p + 1 else p
def lnW (b : Nat → Nat) (e n0 k p : Nat) : Nat × Option DW :=
  if n0 + k = 10 then (p, none) else if p < e ∧ isd (b p) = true then
    (if lnl b e 6 (sgq b e (p + 1)) = 0 then (sgq b e (p + 1), none) else (sgq b e (p + 1) + lnl b e 6 (sgq b e (p + 1)), some (b p - 48, sgd b e (p + 1), lnl b e 6 (sgq b e (p + 1)), fun j => b (sgq b e (p + 1) + j) - 97)))
  else (p, none)
theorem isd_iff {c : Nat} : isd c = true ↔ 48 ≤ c ∧ c ≤ 57 := by simp only [isd, Bool.and_eq_true, decide_eq_true_eq]
theorem isaz_iff {c : Nat} : isaz c = true ↔ 97 ≤ c ∧ c ≤ 122 := by simp only [isaz, Bool.and_eq_true, decide_eq_true_eq]
theorem lnl_le (b : Nat → Nat) (e : Nat) : ∀ d p, lnl b e d p ≤ d ∧ (p ≤ e → p + lnl b e d p ≤ e) ∧ ∀ j, j < lnl b e d p → isaz (b (p + j)) = true := by
  intro d
  induction d with
  | zero => intro p; exact ⟨Nat.le_refl _, fun h => h, fun j q => absurd q (Nat.not_lt_zero j)⟩
  | succ d ih =>
    intro p
    unfold lnl
    by_cases g : p < e ∧ isaz (b p) = true
    · rw [if_pos g]
      obtain ⟨h1, h2, h3⟩ := ih (p + 1)
      refine ⟨by omega, fun _ => by have := h2 (by omega); omega, fun j hj => ?_⟩
      rcases Nat.eq_zero_or_pos j with e0 | e0
      · subst e0; exact g.2
      · have := h3 (j - 1) (by omega)
        rwa [show p + 1 + (j - 1) = p + j by omega] at this
    · rw [if_neg g]
      exact ⟨by omega, fun h => h, fun j q => absurd q (Nat.not_lt_zero j)⟩
theorem sgq_le (b : Nat → Nat) (e p : Nat) : p ≤ sgq b e p ∧ (p ≤ e → sgq b e p ≤ e) := by
  unfold sgq
  split
  · rename_i h; exact ⟨by omega, fun _ => by omega⟩
  · exact ⟨Nat.le_refl _, fun h => h⟩
theorem lnW_ge (b : Nat → Nat) (e n0 k p : Nat) (hp : p ≤ e) : p ≤ (lnW b e n0 k p).1 ∧ (lnW b e n0 k p).1 ≤ e := by
  unfold lnW
  by_cases g1 : n0 + k = 10
  · rw [if_pos g1]; exact ⟨Nat.le_refl _, hp⟩
  · rw [if_neg g1]
    by_cases g2 : p < e ∧ isd (b p) = true
    · rw [if_pos g2]
      obtain ⟨h1, h2⟩ := sgq_le b e (p + 1)
      obtain ⟨h3, h4, h5⟩ := lnl_le b e 6 (sgq b e (p + 1))
      have h6 := h2 (by omega)
      have h7 := h4 h6
      split
      · exact ⟨by show p ≤ sgq b e (p + 1); omega, h6⟩
      · exact ⟨by show p ≤ sgq b e (p + 1) + lnl b e 6 (sgq b e (p + 1)); omega, h7⟩
    · rw [if_neg g2]; exact ⟨Nat.le_refl _, hp⟩
/-- the reading of words so far -/
def rdW (n0 k : Nat) (F : Nat → DW) (M : PM) : Prop := ∀ i, i < k → okW (F i) ∧ M.i 42 (n0 + i) = zn (F i).1 ∧ M.i 43 (n0 + i) = (F i).2.1 ∧ M.i 41 (n0 + i) = zn (F i).2.2.1 ∧ ∀ j, j < (F i).2.2.1 → M.i 40 (6 * (n0 + i) + j) = zn ((F i).2.2.2 j)
def xiW (n0 k : Nat) (F : Nat → DW) (M : PM) : Prop := n0 + k ≤ 10 ∧ M.i 20 24 = zn (n0 + k) ∧ rdW n0 k F M
abbrev cwX (o j : Nat) : Prop := (40 ≤ o ∧ o ≤ 43) ∨ (o = 20 ∧ (j = 17 ∨ j = 24))
section
variable {M M1 : PM} {b : Nat → Nat} {e p n0 k : Nat} {F : Nat → DW}
theorem tk1 (h : XP b e M) (h17 : M.i 20 17 = zn p) (hp : p ≤ 1000) : x_takesOf 1 M = if p < e ∧ isd (b p) = true then some (zn (b p - 48), Mp M (p + 1)) else some (-1, M) := by
  have hb := h.2.2.2.1 p
  rw [xp_takesOf h h17 hp (Or.inl rfl)]
  unfold amv
  by_cases g : p < e
  · rw [if_pos g, idx_1 _ hb]
    by_cases g2 : isd (b p) = true
    · rw [if_pos g2, if_neg (Int32.not_lt.mpr (zn_nonneg (by omega))), if_pos ⟨g, g2⟩]
    · rw [if_neg g2, if_pos (by decide), if_neg (show ¬ (p < e ∧ isd (b p) = true) from fun w => g2 w.2)]
  · rw [if_neg g, if_pos (by decide), if_neg (show ¬ (p < e ∧ isd (b p) = true) from fun w => g w.1)]
theorem am2 (h : XP b e M) (h17 : M.i 20 17 = zn p) (hp : p ≤ 1000) : x_among 2 M = some (if p < e ∧ isaz (b p) = true then zn (b p - 97) else -1, M) := by
  have hb := h.2.2.2.1 p
  rw [xp_among h h17 hp (Or.inr (Or.inl rfl))]
  unfold amv
  by_cases g : p < e
  · rw [if_pos g, idx_2 _ hb]
    by_cases g2 : isaz (b p) = true
    · rw [if_pos (isaz_iff.mp g2), if_pos ⟨g, g2⟩]
    · rw [if_neg (fun w => g2 (isaz_iff.mpr w)), if_neg (fun w => g2 w.2)]
  · rw [if_neg g, if_neg (fun w => g w.1)]
theorem tk2 (h : XP b e M) (h17 : M.i 20 17 = zn p) (hp : p ≤ 1000) : x_takesOf 2 M = if p < e ∧ isaz (b p) = true then some (zn (b p - 97), Mp M (p + 1)) else some (-1, M) := by
  have hb := h.2.2.2.1 p
  have ha := am2 h h17 hp
  rw [xp_among h h17 hp (Or.inr (Or.inl rfl))] at ha
  have hv : amv b e 2 p = if p < e ∧ isaz (b p) = true then zn (b p - 97) else -1 := by
    injection ha with ha
    exact (Prod.mk.inj ha).1
  rw [xp_takesOf h h17 hp (Or.inr (Or.inl rfl)), hv]
  by_cases g : p < e ∧ isaz (b p) = true
  · rw [if_pos g, if_pos g, if_neg (Int32.not_lt.mpr (zn_nonneg (by omega)))]
  · rw [if_neg g, if_neg g, if_pos (by decide)]
theorem xs_lnl {w : Nat} (hw : w < 10) (he : e ≤ 80) (Kc : Int32 → PM → Option (Int32 × PM)) : ∀ d j n q M, j + d = 6 → d < n → q ≤ e → XP b e M → M.i 20 17 = zn q → ∃ M', x_readsWord_L50 (zn w) Kc n (zn j) M = Kc (zn (j + lnl b e d q)) M' ∧ Fq (fun o x => (o = 40 ∧ 6 * w + j ≤ x) ∨ (o = 20 ∧ x = 17)) M M' ∧ XP b e M' ∧ M'.i 20 17 = zn (q + lnl b e d q) ∧ ∀ x, x < lnl b e d q → M'.i 40 (6 * w + (j + x)) = zn (b (q + x) - 97) := by
  intro d
  induction d with
  | zero =>
    intro j n q M hj hn hq hX h17
    obtain ⟨n, rfl⟩ : ∃ r, n = r + 1 := ⟨n - 1, by omega⟩
    refine ⟨M, ?_, Fq.rf, hX, h17, fun x q => absurd q (Nat.not_lt_zero x)⟩
    rw [x_readsWord_L50, jn_u, if_pos (by rw [l_le_zn (by omega) (by omega)]; omega)]
    rfl
  | succ d ih =>
    intro j n q M hj hn hq hX h17
    obtain ⟨n, rfl⟩ : ∃ r, n = r + 1 := ⟨n - 1, by omega⟩
    have hb := hX.2.2.2.1 q
    unfold lnl
    by_cases g : q < e ∧ isaz (b q) = true
    · have ha := am2 hX h17 (show q ≤ 1000 by omega)
      have ht := tk2 hX h17 (show q ≤ 1000 by omega)
      rw [if_pos g] at ha ht
      obtain ⟨N, hN⟩ : ∃ N, N = (Mp M (q + 1)).si 40 (6 * w + j) (zn (b q - 97)) := ⟨_, rfl⟩
      have fN : Fq (fun o x => (o = 40 ∧ 6 * w + j ≤ x) ∨ (o = 20 ∧ x = 17)) M N := by
        rw [hN]
        exact Fq.si (c := fun o x => (o = 40 ∧ 6 * w + j ≤ x) ∨ (o = 20 ∧ x = 17)) ((Mp.fq M (q + 1)).mo (fun o x w => Or.inr w)) (Or.inl ⟨rfl, Nat.le_refl _⟩)
      obtain ⟨M', e1, f1, X1, i1, r1⟩ := ih (j + 1) n (q + 1) N (by omega) (by omega) (by omega) (hX.fr fN (by omega) (fun x => by omega)) (by rw [hN, si_i, if_neg (by omega)]; exact Mp.i17 M (q + 1))
      rw [if_pos g]
      refine ⟨M', ?_, fN.tr (f1.mo (fun o x w => by omega)), X1, by rw [i1, Nat.add_assoc, Nat.add_comm 1], fun x hx => ?_⟩
      · rw [x_readsWord_L50, jn_u, if_neg (by rw [l_le_zn (by omega) (by omega)]; omega), bde ha, if_neg (Int32.not_lt.mpr (zn_nonneg (by omega))), bde ht, zn_mull, zn_add, ck_zn (by omega) (by omega), ix_zn (by omega), lt_u, ← hN, lt_u, zn_addl, e1, show j + 1 + lnl b e d (q + 1) = j + (lnl b e d (q + 1) + 1) by omega]
      · rcases Nat.eq_zero_or_pos x with e0 | e0
        · subst e0
          rw [f1.i _ _ (by omega), hN, si_i, if_pos ⟨rfl, rfl⟩]
          rfl
        · have := r1 (x - 1) (by omega)
          rw [show j + 1 + (x - 1) = j + x by omega, show q + 1 + (x - 1) = q + x by omega] at this
          exact this
    · have ha := am2 hX h17 (show q ≤ 1000 by omega)
      rw [if_neg g] at ha
      rw [if_neg g]
      refine ⟨M, ?_, Fq.rf, hX, h17, fun x q => absurd q (Nat.not_lt_zero x)⟩
      rw [x_readsWord_L50, jn_u, if_neg (by rw [l_le_zn (by omega) (by omega)]; omega), bde ha, if_pos (by decide)]
      rfl
theorem xs_readsWord (he : e ≤ 80) (hn0 : n0 ≤ 10) (hp : p ≤ e) (hX : XP b e M) (h17 : M.i 20 17 = zn p) (hI : xiW n0 k F M) : ∃ M', Fq cwX M M' ∧ XP b e M' ∧ M'.i 20 17 = zn (lnW b e n0 k p).1 ∧ (p ≤ (lnW b e n0 k p).1 ∧ (lnW b e n0 k p).1 ≤ e) ∧ (((lnW b e n0 k p).2 = none ∧ x_readsWord M = some (0, M')) ∨ ∃ d, (lnW b e n0 k p).2 = some d ∧ x_readsWord M = some (1, M') ∧ xiW n0 (k + 1) (exF F k d) M') := by
  obtain ⟨i0, i1, i2⟩ := hI
  have hge := lnW_ge b e n0 k p hp
  revert hge
  unfold lnW
  by_cases g1 : n0 + k = 10
  · rw [if_pos g1]
    intro hge
    refine ⟨M, Fq.rf, hX, h17, hge, Or.inl ⟨rfl, ?_⟩⟩
    unfold x_readsWord
    rw [i1, lt_u, if_pos (by rw [g1]; rfl)]
  · rw [if_neg g1]
    have n10 : ¬ zn (n0 + k) = 10 := by rw [zn_eq_l (by omega) (by omega)]; exact g1
    have ht := tk1 hX h17 (show p ≤ 1000 by omega)
    by_cases g2 : p < e ∧ isd (b p) = true
    · have hd := isd_iff.mp g2.2
      rw [if_pos g2]
      rw [if_pos g2] at ht
      intro hge
      obtain ⟨N, hN⟩ : ∃ N, N = (Mp M (p + 1)).si 42 (n0 + k) (zn (b p - 48)) := ⟨_, rfl⟩
      have fN : Fq (fun o x => (o = 42 ∧ x = n0 + k) ∨ (o = 20 ∧ x = 17)) M N := by
        rw [hN]
        exact Fq.si (c := fun o x => (o = 42 ∧ x = n0 + k) ∨ (o = 20 ∧ x = 17)) ((Mp.fq M (p + 1)).mo (fun o x w => Or.inr w)) (Or.inl ⟨rfl, rfl⟩)
      have XN := hX.fr fN (by omega) (fun x => by omega)
      have N17 : N.i 20 17 = zn (p + 1) := by rw [hN, si_i, if_neg (by omega)]; exact Mp.i17 M (p + 1)
      have N42 : N.i 42 (n0 + k) = zn (b p - 48) := by rw [hN, si_i, if_pos ⟨rfl, rfl⟩]
      have hb1 := hX.2.2.2.1 (p + 1)
      -- the second digit, if there is one
      have h2 : ∃ M3, x_takesOf 1 N = some (sgd b e (p + 1), M3) ∧ Fq (fun o x => o = 20 ∧ x = 17) N M3 ∧ M3.i 20 17 = zn (sgq b e (p + 1)) := by
        have ht2 := tk1 XN N17 (show p + 1 ≤ 1000 by omega)
        unfold sgd sgq
        by_cases g3 : p + 1 < e ∧ isd (b (p + 1)) = true
        · rw [if_pos g3] at ht2
          rw [if_pos g3, if_pos g3]
          exact ⟨_, ht2, Mp.fq N _, Mp.i17 N _⟩
        · rw [if_neg g3] at ht2
          rw [if_neg g3, if_neg g3]
          exact ⟨N, ht2, Fq.rf, N17⟩
      obtain ⟨M3, e3, f3, j3⟩ := h2
      obtain ⟨hq1, hq2⟩ := sgq_le b e (p + 1)
      have hq3 := hq2 (by omega)
      have hsd : sgd b e (p + 1) = -1 ∨ ∃ x, x ≤ 9 ∧ sgd b e (p + 1) = zn x := by
        unfold sgd
        split
        · rename_i w
          have := isd_iff.mp w.2
          exact Or.inr ⟨b (p + 1) - 48, by omega, rfl⟩
        · exact Or.inl rfl
      generalize sgq b e (p + 1) = q at hge hq1 hq3 j3 ⊢
      generalize sgd b e (p + 1) = sg at e3 hsd ⊢
      obtain ⟨M4, hM4⟩ : ∃ M4, M4 = M3.si 43 (n0 + k) sg := ⟨_, rfl⟩
      have f4 : Fq (fun o x => (o = 42 ∧ x = n0 + k) ∨ (o = 43 ∧ x = n0 + k) ∨ (o = 20 ∧ x = 17)) M M4 := by
        rw [hM4]
        exact Fq.si (c := fun o x => (o = 42 ∧ x = n0 + k) ∨ (o = 43 ∧ x = n0 + k) ∨ (o = 20 ∧ x = 17)) ((fN.mo (fun o x w => w.elim Or.inl (fun z => Or.inr (Or.inr z)))).tr (f3.mo (fun o x w => Or.inr (Or.inr w)))) (Or.inr (Or.inl ⟨rfl, rfl⟩))
      have X4 := hX.fr f4 (by omega) (fun x => by omega)
      obtain ⟨Kd, hKd⟩ : ∃ Kd : Int32 → PM → Option (Int32 × PM), Kd = (fun (v8 : Int32) (M10 : PM) => ck (zn (n0 + k)) 10 <| lt (M10.si 41 (ix (zn (n0 + k))) v8) fun M11 => lt (M11.si 20 24 ((M11.i 20 24) + 1)) fun M12 => if v8 ≤ 0 then (some (0, M12)) else (some (1, M12))) := ⟨_, rfl⟩
      obtain ⟨M5, e5, f5, X5, j5, r5⟩ := xs_lnl (w := n0 + k) (by omega) he Kd 6 0 FU q M4 (by omega) (FU_lt (by omega)) hq3 X4 (by rw [hM4, si_i, if_neg (by omega)]; exact j3)
      rw [Nat.zero_add] at e5
      have e5' : x_readsWord_L50 (zn (n0 + k)) Kd FU 0 M4 = _ := e5
      clear e5
      obtain ⟨hl1, hl2, hl3⟩ := lnl_le b e 6 q
      generalize lnl b e 6 q = L at *
      obtain ⟨M6, hM6⟩ : ∃ M6, M6 = (M5.si 41 (n0 + k) (zn L)).si 20 24 (zn (n0 + k + 1)) := ⟨_, rfl⟩
      have f6 : Fq (fun o x => (o = 41 ∧ x = n0 + k) ∨ (o = 20 ∧ x = 24)) M5 M6 := by
        rw [hM6]
        exact Fq.si (c := fun o x => (o = 41 ∧ x = n0 + k) ∨ (o = 20 ∧ x = 24)) (Fq.si (c := fun o x => (o = 41 ∧ x = n0 + k) ∨ (o = 20 ∧ x = 24)) Fq.rf (Or.inl ⟨rfl, rfl⟩)) (Or.inr ⟨rfl, rfl⟩)
      have i24 : (M5.si 41 (n0 + k) (zn L)).i 20 24 = zn (n0 + k) := by rw [si_i, if_neg (by omega), f5.i _ _ (by omega), f4.i _ _ (by omega)]; exact i1
      have X6 := X5.fr f6 (by omega) (fun x => by omega)
      have j6 : M6.i 20 17 = zn (q + L) := (f6.i _ _ (by omega)).trans j5
      have F6 : Fq cwX M M6 := ((f4.mo (d := cwX) (fun o x w => by unfold cwX; omega)).tr (f5.mo (d := cwX) (fun o x w => by unfold cwX; omega))).tr (f6.mo (d := cwX) (fun o x w => by unfold cwX; omega))
      have hun : x_readsWord M = if zn L ≤ 0 then (some (0, M6)) else (some (1, M6)) := by
        unfold x_readsWord
        rw [i1, lt_u, ← hKd, if_neg n10, bde ht, ck_zn (by omega) (by omega), ix_zn (by omega), lt_u, ← hN, ck_zn (by omega) (by omega), N42, if_pos (zn_nonneg (by omega)), bde e3, ck_zn (by omega) (by omega), lt_u, ← hM4, e5', hKd]
        simp only [lt_u]
        rw [ck_zn (by omega) (by omega), ix_zn (by omega), i24, zn_addl, ← hM6]
      by_cases g4 : L = 0
      · subst g4
        rw [if_pos rfl] at hge ⊢
        rw [if_pos (by decide)] at hun
        exact ⟨M6, F6, X6, by rw [j6]; rfl, hge, Or.inl ⟨rfl, hun⟩⟩
      · rw [if_neg g4] at hge ⊢
        rw [if_neg (by rw [zn_le_l (by omega) (by omega)]; omega)] at hun
        refine ⟨M6, F6, X6, j6, hge, Or.inr ⟨_, rfl, hun, by omega, by rw [hM6, si_i, if_pos ⟨rfl, rfl⟩]; rfl, fun i hi => ?_⟩⟩
        unfold exF
        by_cases ei : i = k
        · rw [if_pos ei, ei]
          refine ⟨⟨by show b p - 48 ≤ 9; omega, hsd, ⟨by show 1 ≤ L; omega, hl1⟩, fun j hj => ?_⟩, ?_, ?_, ?_, fun j hj => ?_⟩
          · have := isaz_iff.mp (hl3 j hj)
            show b (q + j) - 97 < 26
            omega
          · rw [f6.i _ _ (by omega), f5.i _ _ (by omega), hM4, si_i, if_neg (by omega), f3.i _ _ (by omega)]; exact N42
          · rw [f6.i _ _ (by omega), f5.i _ _ (by omega), hM4, si_i, if_pos ⟨rfl, rfl⟩]
          · rw [hM6, si_i, if_neg (by omega), si_i, if_pos ⟨rfl, rfl⟩]
          · have := r5 j hj
            rw [Nat.zero_add] at this
            rw [f6.i _ _ (by omega)]; exact this
        · rw [if_neg ei]
          obtain ⟨w1, w2, w3, w4, w5⟩ := i2 i (by omega)
          refine ⟨w1, ?_, ?_, ?_, fun j hj => ?_⟩
          · rw [f6.i _ _ (by omega), f5.i _ _ (by omega), f4.i _ _ (by omega)]; exact w2
          · rw [f6.i _ _ (by omega), f5.i _ _ (by omega), f4.i _ _ (by omega)]; exact w3
          · rw [f6.i _ _ (by omega), f5.i _ _ (by omega), f4.i _ _ (by omega)]; exact w4
          · have hj6 : j < 6 := by have := w1.2.2.1.2; omega
            rw [f6.i _ _ (by omega), f5.i _ _ (by omega), f4.i _ _ (by omega)]; exact w5 j hj
    · rw [if_neg g2]
      rw [if_neg g2] at ht
      intro hge
      obtain ⟨N, hN⟩ : ∃ N, N = M.si 42 (n0 + k) (-1) := ⟨_, rfl⟩
      have fN : Fq (fun o x => o = 42) M N := by rw [hN]; exact Fq.si (c := fun o x => o = 42) Fq.rf rfl
      refine ⟨N, fN.mo (d := cwX) (fun o x w => by unfold cwX; omega), hX.fr fN (by omega) (fun x => by omega), (fN.i _ _ (by omega)).trans h17, hge, Or.inl ⟨rfl, ?_⟩⟩
      unfold x_readsWord
      rw [i1, lt_u, if_neg n10, bde ht, ck_zn (by omega) (by omega), ix_zn (by omega), lt_u, ← hN, ck_zn (by omega) (by omega), show N.i 42 (n0 + k) = -1 from by rw [hN, si_i, if_pos ⟨rfl, rfl⟩], if_neg (by decide)]
end
