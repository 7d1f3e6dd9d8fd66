set_option maxRecDepth 100000
/-! TRIPS: the system walks on -/
def rw2 (C : SV) (h : Nat) (G : Nat → Nat → Nat) (M : PM) : Prop := ∀ to, to < C.ns → ∀ T, T < 2 ^ C.ne → M.i 65 (sp (h + 1) to T) = zn (G to T)
abbrev CC (C : SV) (A : Nat → Int32) (t s0 T0 : Nat) : Nat → Nat → Nat → Nat → Nat → Nat → Nat → Prop := CM C.ns C.nw (BB C t) (vwT C A) s0 T0
def cmY (C : SV) (A : Nat → Int32) (t s0 T0 h s to X : Nat) (G : Nat → Nat → Nat) : Prop := ∀ to', to' < C.ns → ∀ T', T' < 2 ^ C.ne → isY IX (CC C A t s0 T0 h s to X to' T') (G to' T')
abbrev gcl (h o j : Nat) : Prop := o = 65 ∧ ∃ s T, s < 6 ∧ T < 256 ∧ j = sp (h + 1) s T
def up3 (G : Nat → Nat → Nat) (a b x : Nat) : Nat → Nat → Nat := fun i j => if i = a ∧ j = b then x else G i j
section
variable {C : SV} {A : Nat → Int32} {M M1 : PM} {t s0 T0 h s to : Nat} {g : Nat → Nat}
theorem gcl_tc (h : Nat) (o j : Nat) (q : gcl h o j) : tcX o j := Or.inr q.1
theorem rwX.gcl (hs : s < 6) {N : Nat} (hN : N ≤ 256) (h0 : rwX h s N g M) (f : Fq (gcl h) M M1) : rwX h s N g M1 := fun S hS => by
  rw [f.i _ _ (fun w => by
    obtain ⟨-, a, b, h1, h2, h3⟩ := w
    have := (sp_ne hs (by omega) h1 h2 h3).1
    omega)]
  exact h0 S hS
theorem xs_goT (hC : OKC C) (hh : h + 1 ≤ 12) (hs : s < C.ns) (hto : to < C.ns) (had : adj s to) (hg : LR IX (2 ^ C.ne) (PX C A t s0 T0 h s) g) (Kc : PM → Option (Unit × PM)) : ∀ d T F M G, T + d = 2 ^ C.ne → d < F → CX C M → rwX h s (2 ^ C.ne) g M → rw2 C h G M → cmY C A t s0 T0 h s to T G →
    ∃ M' G', x_goesOn_L27 (zn h) (zn s) (zn to) Kc F (zn T) M = Kc M' ∧ Fq (gcl h) M M' ∧ rw2 C h G' M' ∧ cmY C A t s0 T0 h s to (2 ^ C.ne) G' := by
  have b2 := hC.ns6
  have b3 := p2_256 hC.ne8
  have b4 := hC.ne8
  intro d
  induction d with
  | zero =>
    intro T F M G hk hF hx hr hG hY
    obtain ⟨F, rfl⟩ : ∃ m, F = m + 1 := ⟨F - 1, by omega⟩
    have ek : T = 2 ^ C.ne := by omega
    subst ek
    refine ⟨M, G, ?_, Fq.rf, hG, hY⟩
    rw [x_goesOn_L27, hx.ne, sh2 _ (by omega), if_pos (by rw [zn_le (by omega) (by omega)]; omega)]
  | succ d ih =>
    intro T F M G hk hF hx hr hG hY
    obtain ⟨F, rfl⟩ : ∃ m, F = m + 1 := ⟨F - 1, by omega⟩
    have hT : T < 2 ^ C.ne := by omega
    have l1 := sp_lt (h := h) (s := s) (by omega) (by omega) (show T < 256 by omega)
    have l2 := sp_lt (s := to) hh (by omega) (show T < 256 by omega)
    have y1 : isY IX (PX C A t s0 T0 h s T) (g T) := hg T hT
    have y2 := hY to hto T hT
    have i1 : g T ≤ 1000000000 := y1.1
    have i2 : G to T ≤ 1000000000 := y2.1
    obtain ⟨N, hN⟩ : ∃ N, N = M.si 65 (sp (h + 1) to T) (zn (min (G to T) (g T))) := ⟨_, rfl⟩
    have fN : Fq (gcl h) M N := by rw [hN]; exact Fq.si (c := gcl h) Fq.rf ⟨rfl, to, T, by omega, by omega, rfl⟩
    have el : x_lessens (zn (sp (h + 1) to T)) (zn (g T)) M = some ((), N) := by
      unfold x_lessens
      rw [ck_zn l2 (by omega), ck_zn l2 (by omega), ix_zn (by omega), hG to hto T hT, imin_zn (by omega) (by omega), ← hN, lt_u]
    obtain ⟨M3, G3, e3, f3, r3, Y3⟩ := ih (T + 1) F N (up3 G to T (min (G to T) (g T))) (by omega) (by omega) (hx.tc (fN.mo (gcl_tc h))) (hr.gcl (by omega) b3 fN) (fun a ha b hb => by
      rw [hN, si_i]
      unfold up3
      by_cases q : a = to ∧ b = T
      · rw [if_pos q, if_pos ⟨rfl, by rw [q.1, q.2]⟩]
      · rw [if_neg q, if_neg (fun w => q (sp_ne (by omega) (by omega) (by omega) (by omega) w.2).2)]
        exact hG a ha b hb) (fun a ha b hb => by
      unfold up3
      by_cases q : a = to ∧ b = T
      · obtain ⟨q1, q2⟩ := q
        subst q1
        subst q2
        rw [if_pos ⟨rfl, rfl⟩]
        exact (isY.min y2 y1).iff (fun c => (CM.one had c).symm)
      · rw [if_neg q]
        exact (hY a ha b hb).iff (fun c => (CM.other q c).symm))
    refine ⟨M3, G3, ?_, fN.tr f3, r3, Y3⟩
    rw [x_goesOn_L27, hx.ne, sh2 _ (by omega), if_neg (by rw [zn_le (by omega) (by omega)]; omega), zn_addl, bde (xs_spot (h + 1) to T M), bde (xs_spot h s T M), ck_zn l1 (by omega), ix_zn (by omega), hr T hT, bde el, lt_u, zn_addl, e3]
theorem xs_goS (hC : OKC C) (hh : h + 1 ≤ 12) (hs : s < C.ns) (hg : LR IX (2 ^ C.ne) (PX C A t s0 T0 h s) g) : ∀ d to F M G, to + d = min (C.ns - 1) (s + 1) + 1 → s ≤ to + 1 → d < F → CX C M → rwX h s (2 ^ C.ne) g M → rw2 C h G M → cmY C A t s0 T0 h s to 0 G →
    ∃ M' G', x_goesOn_L8 (zn h) (zn s) F (zn to) M = some ((), M') ∧ Fq (gcl h) M M' ∧ rw2 C h G' M' ∧ cmY C A t s0 T0 h (s + 1) 0 0 G' := by
  have b2 := hC.ns6
  have b5 := hC.ns1
  have b3 := p2_256 hC.ne8
  have em : ∀ M, CX C M → imin ((M.i 20 10) - 1) (zn s + 1) = zn (min (C.ns - 1) (s + 1)) := fun M hx => by
    rw [hx.ns, show zn C.ns - 1 = zn (C.ns - 1) from zn_subl (n := 1) b5, zn_addl, imin_zn (by omega) (by omega)]
  intro d
  induction d with
  | zero =>
    intro to F M G hk hst hF hx hr hG hY
    obtain ⟨F, rfl⟩ : ∃ m, F = m + 1 := ⟨F - 1, by omega⟩
    refine ⟨M, G, ?_, Fq.rf, hG, fun a ha b hb => (hY a ha b hb).iff (fun c => CM.station (fun x h1 h2 => by unfold adj at h1; omega) ha c)⟩
    rw [x_goesOn_L8, em M hx, if_pos (by rw [zn_lt (by omega) (by omega)]; omega)]
  | succ d ih =>
    intro to F M G hk hst hF hx hr hG hY
    obtain ⟨F, rfl⟩ : ∃ m, F = m + 1 := ⟨F - 1, by omega⟩
    obtain ⟨Kd, hKd⟩ : ∃ Kd : PM → Option (Unit × PM), Kd = (fun (M6 : PM) => lt (zn to + 1) fun v7 => x_goesOn_L8 (zn h) (zn s) F v7 M6) := ⟨_, rfl⟩
    obtain ⟨M2, G2, e2, f2, r2, Y2⟩ := xs_goT (t := t) (s0 := s0) (T0 := T0) (A := A) hC hh hs (show to < C.ns by omega) ⟨by omega, by omega⟩ hg Kd (2 ^ C.ne) 0 FU M G (by omega) (FU_lt (by omega)) hx hr hG hY
    have e2' : x_goesOn_L27 (zn h) (zn s) (zn to) Kd FU 0 M = _ := e2
    obtain ⟨M3, G3, e3, f3, r3, Y3⟩ := ih (to + 1) F M2 G2 (by omega) (by omega) (by omega) (hx.tc (f2.mo (gcl_tc h))) (hr.gcl (by omega) b3 f2) r2 (fun a ha b hb => (Y2 a ha b hb).iff (fun c => CM.way hb c))
    refine ⟨M3, G3, ?_, f2.tr f3, r3, Y3⟩
    rw [x_goesOn_L8, em M hx, if_neg (by rw [zn_lt (by omega) (by omega)]; omega), ← hKd, e2', hKd]
    simp only [lt_u]
    rw [zn_addl, e3]
theorem xs_goesOn (hC : OKC C) (hh : h + 1 ≤ 12) (hs : s < C.ns) (hx : CX C M) (hg : LR IX (2 ^ C.ne) (PX C A t s0 T0 h s) g) (hr : rwX h s (2 ^ C.ne) g M) {G : Nat → Nat → Nat} (hG : rw2 C h G M) (hY : cmY C A t s0 T0 h s 0 0 G) :
    ∃ M' G', x_goesOn (zn h) (zn s) M = some ((), M') ∧ Fq (gcl h) M M' ∧ rw2 C h G' M' ∧ cmY C A t s0 T0 h (s + 1) 0 0 G' := by
  have b2 := hC.ns6
  have es : imax 0 (zn s - 1) = zn (s - 1) := by
    rcases Nat.eq_zero_or_pos s with e | e
    · subst e; decide
    · rw [show zn s - 1 = zn (s - 1) from zn_subl (n := 1) e, show (0 : Int32) = zn 0 from rfl, imax_zn (by omega) (by omega), Nat.zero_max]
  obtain ⟨M2, G2, e2, f2, r2, Y2⟩ := xs_goS (t := t) (s0 := s0) (T0 := T0) (A := A) hC hh hs hg (min (C.ns - 1) (s + 1) + 1 - (s - 1)) (s - 1) FU M G (by omega) (by omega) (FU_lt (by omega)) hx hr hG (fun a ha b hb => (hY a ha b hb).iff (fun c => CM.start (by omega) c))
  refine ⟨M2, G2, ?_, f2, r2, Y2⟩
  unfold x_goesOn
  rw [es, lt_u, e2]
end
