set_option maxRecDepth 100000
/-! TRIPS: the system says words -/
def sp (h s T : Nat) : Nat := (6 * h + s) * 256 + T
abbrev IX : Nat := 1000000000
theorem sp_lt {h s T : Nat} (hh : h ≤ 12) (hs : s < 6) (hT : T < 256) : sp h s T < 19968 := by unfold sp; omega
theorem sp_ne {h s T h' s' T' : Nat} (hs : s < 6) (hT : T < 256) (hs' : s' < 6) (hT' : T' < 256) (e : sp h s T = sp h' s' T') : h = h' ∧ s = s' ∧ T = T' := by unfold sp at e; omega
/-- a row of costs at a station in an hour -/
def rwX (h s N : Nat) (g : Nat → Nat) (M : PM) : Prop := ∀ S, S < N → M.i 65 (sp h s S) = zn (g S)
abbrev scl (h s N o j : Nat) : Prop := ca o j ∨ (o = 65 ∧ ∃ S, S < N ∧ j = sp h s S)
abbrev tcX (o j : Nat) : Prop := ca o j ∨ o = 65
theorem shR_tcX : ∀ q ∈ shR, ¬ tcX q.1 q.2.1 := by decide +kernel
section
variable {C : SV} {A : Nat → Int32} {M M1 : PM} {t s0 T0 h s : Nat} {f : Nat → Nat}
theorem scl_tc (h s N : Nat) (o j : Nat) (q : scl h s N o j) : tcX o j := q.elim Or.inl (fun w => Or.inr w.1)
theorem CX.tc (h : CX C M) (f : Fq tcX M M1) : CX C M1 := h.fr f shR_tcX (fun o j q => by unfold tcX ca; omega)
theorem RvX.tc (h : RvX 21 A M) (f : Fq tcX M M1) : RvX 21 A M1 := h.fr f (fun o j q => by unfold rdc at q; unfold tcX ca; omega)
theorem rwX.fa {N : Nat} {g : Nat → Nat} (h0 : rwX h s N g M) (f : Fq ca M M1) : rwX h s N g M1 := fun S hS => by rw [f.i _ _ (by unfold ca; omega)]; exact h0 S hS
theorem xs_spot (h s T : Nat) (M : PM) : x_spot (zn h) (zn s) (zn T) M = some (zn (sp h s T), M) := by
  unfold x_spot sp
  have e : zn (6 * h + s) * 256 = zn ((6 * h + s) * 256) := by
    rw [Int32.mul_comm, zn_mull, Nat.mul_comm]
  rw [zn_mull, zn_add, e, zn_add]
theorem xs_sayW (hC : OKC C) (hf : ∀ S, S < 2 ^ C.ne → f S ≤ IX) (hh : h ≤ 12) (hs : s < C.ns) {T : Nat} (hT : T < 2 ^ C.ne) (Kc : PM → Option (Unit × PM)) : ∀ d k F M g, k + d = C.nw → d < F → CX C M → RvX 21 A M → XSI C.ns C.nw (BB C t) (vwT C A) s0 T0 IX (2 ^ C.ne) h s f T k g → rwX h s (2 ^ C.ne) g M →
    ∃ M' g', x_laysSayings_L17 (zn t) (zn h) (zn s) (zn T) Kc F (zn k) M = Kc M' ∧ Fq (scl h s (2 ^ C.ne)) M M' ∧ XSI C.ns C.nw (BB C t) (vwT C A) s0 T0 IX (2 ^ C.ne) h s f (T + 1) 0 g' ∧ rwX h s (2 ^ C.ne) g' M' := by
  have b1 := hC.nw10
  have b2 := hC.ns6
  have b3 := p2_256 hC.ne8
  intro d
  induction d with
  | zero =>
    intro k F M g hk hF hx ha hX hr
    obtain ⟨F, rfl⟩ : ∃ m, F = m + 1 := ⟨F - 1, by omega⟩
    have ek : k = C.nw := by omega
    subst ek
    refine ⟨M, g, ?_, Fq.rf, hX.next, hr⟩
    rw [x_laysSayings_L17]
    simp only [jn_u]
    rw [hx.nw, if_pos (by rw [zn_le (by omega) (by omega)]; omega)]
  | succ d ih =>
    intro k F M g hk hF hx ha hX hr
    obtain ⟨F, rfl⟩ : ∃ m, F = m + 1 := ⟨F - 1, by omega⟩
    have hkn : k < C.nw := by omega
    have hsl := sp_lt (s := s) hh (by omega) (show T < 256 by omega)
    have hle : ∀ S, S < 2 ^ C.ne → g S ≤ IX := fun S hS => Nat.le_trans (hX.1 S hS) (hf S hS)
    have hor : ∀ w, T ||| BB C t s w < 2 ^ C.ne := fun w => or_lt8 hT (BB_lt C t s w)
    have hgT : g T ≤ 1000000000 := hle T hT
    rw [x_laysSayings_L17]
    simp only [jn_u]
    rw [hx.nw, if_neg (by rw [zn_le (by omega) (by omega)]; omega), bde (xs_spot h s T M), ck_zn hsl (by omega), ix_zn (by omega), hr T hT, b9]
    by_cases g1 : 1000000000 ≤ g T
    · rw [if_pos (by rw [zn_le (by omega) (by omega)]; exact g1)]
      exact ⟨M, g, rfl, Fq.rf, hX.none g1 (fun w _ => hle _ (hor w)), hr⟩
    · rw [if_neg (by rw [zn_le (by omega) (by omega)]; exact g1)]
      have ed := xs_doesBy hx (zn T) (zn t) (zn s) hkn
      rw [dob_bN hC (show T < 256 by omega)] at ed
      rw [bde ed]
      have hbl := bN_lt (fun e => PB C t s k e && !T.testBit e) C.ne
      by_cases g2 : T ||| BB C t s k = T
      · rw [(z_BB T).mpr g2, if_pos (show zn 0 = 0 from rfl), lt_u, zn_addl]
        exact ih (k + 1) F M g (by omega) (by omega) hx ha (hX.same g2) hr
      · rw [if_neg (by rw [zn_eq_l (by omega) (by omega)]; exact fun q => g2 ((z_BB T).mp q)), zn_or, or_BB, bde (xs_spot h s (T ||| BB C t s k) M), bde (xs_spot h s T M), ck_zn hsl (by omega), ix_zn (by omega), hr T hT]
        have hol := hor k
        have hsl2 := sp_lt (s := s) hh (by omega) (show T ||| BB C t s k < 256 by omega)
        obtain ⟨ev, ev2⟩ := vw_e hC A h s hkn
        obtain ⟨M2, e2, f2, -⟩ := xs_tollOf hx hkn (zn s) (A 12 + zn h)
        rw [ev] at e2
        have r2 := hr.fa f2
        have hgo : g (T ||| BB C t s k) ≤ 1000000000 := hle _ hol
        rw [hx12 ha, bde e2]
        obtain ⟨N, hN⟩ : ∃ N, N = M2.si 65 (sp h s (T ||| BB C t s k)) (zn (min (g (T ||| BB C t s k)) (g T + vwT C A h s k))) := ⟨_, rfl⟩
        have fN : Fq (scl h s (2 ^ C.ne)) M2 N := by rw [hN]; exact Fq.si (c := scl h s (2 ^ C.ne)) Fq.rf (Or.inr ⟨rfl, _, hol, rfl⟩)
        have el : x_lessens (zn (sp h s (T ||| BB C t s k))) (zn (g T) + zn (vwT C A h s k)) M2 = some ((), N) := by
          unfold x_lessens
          rw [ck_zn hsl2 (by omega), ck_zn hsl2 (by omega), ix_zn (by omega), r2 _ hol, zn_add, imin_zn (by omega) (by omega), ← hN, lt_u]
        have fM : Fq (scl h s (2 ^ C.ne)) M N := (f2.mo (d := scl h s (2 ^ C.ne)) (fun o j q => Or.inl q)).tr fN
        have fMt : Fq tcX M N := fM.mo (scl_tc h s _)
        rw [bde el, lt_u, zn_addl]
        have rN : rwX h s (2 ^ C.ne) (ups g (T ||| BB C t s k) (min (g (T ||| BB C t s k)) (g T + vwT C A h s k))) N := by
          intro S hS
          rw [hN, si_i]
          by_cases q : S = T ||| BB C t s k
          · rw [q, ups_eq, if_pos ⟨rfl, rfl⟩]
          · rw [ups_ne q, if_neg (fun w => q (sp_ne (by omega) (by omega) (by omega) (by omega) w.2).2.2)]
            exact r2 S hS
        obtain ⟨M5, g5, e5, f5, X5, r5⟩ := ih (k + 1) F N _ (by omega) (by omega) (hx.tc fMt) (ha.tc fMt) (hX.say hkn hT (show g T < 1000000000 by omega) g2) rN
        exact ⟨M5, g5, e5, fM.tr f5, X5, r5⟩
theorem xs_sayS (hC : OKC C) (hf : ∀ S, S < 2 ^ C.ne → f S ≤ IX) (hh : h ≤ 12) (hs : s < C.ns) : ∀ d T F M g, T + d = 2 ^ C.ne → d < F → CX C M → RvX 21 A M → XSI C.ns C.nw (BB C t) (vwT C A) s0 T0 IX (2 ^ C.ne) h s f T 0 g → rwX h s (2 ^ C.ne) g M →
    ∃ M' g', x_laysSayings_L3 (zn t) (zn h) (zn s) F (zn T) M = some ((), M') ∧ Fq (scl h s (2 ^ C.ne)) M M' ∧ XSI C.ns C.nw (BB C t) (vwT C A) s0 T0 IX (2 ^ C.ne) h s f (2 ^ C.ne) 0 g' ∧ rwX h s (2 ^ C.ne) g' M' := by
  have b1 := hC.nw10
  have b3 := p2_256 hC.ne8
  have b4 := hC.ne8
  intro d
  induction d with
  | zero =>
    intro T F M g hk hF hx ha hX hr
    obtain ⟨F, rfl⟩ : ∃ m, F = m + 1 := ⟨F - 1, by omega⟩
    have ek : T = 2 ^ C.ne := by omega
    subst ek
    refine ⟨M, g, ?_, Fq.rf, hX, hr⟩
    rw [x_laysSayings_L3, hx.ne, sh2 _ (by omega), if_pos (by rw [zn_le (by omega) (by omega)]; omega)]
  | succ d ih =>
    intro T F M g hk hF hx ha hX hr
    obtain ⟨F, rfl⟩ : ∃ m, F = m + 1 := ⟨F - 1, by omega⟩
    obtain ⟨Kd, hKd⟩ : ∃ Kd : PM → Option (Unit × PM), Kd = (fun (M11 : PM) => lt (zn T + 1) fun v9 => x_laysSayings_L3 (zn t) (zn h) (zn s) F v9 M11) := ⟨_, rfl⟩
    obtain ⟨M2, g2, e2, f2, X2, r2⟩ := xs_sayW (t := t) (s0 := s0) (T0 := T0) (A := A) hC hf hh hs (show T < 2 ^ C.ne by omega) Kd C.nw 0 FU M g (by omega) (FU_lt (by omega)) hx ha hX hr
    have e2' : x_laysSayings_L17 (zn t) (zn h) (zn s) (zn T) Kd FU 0 M = _ := e2
    have ft := f2.mo (scl_tc h s _)
    obtain ⟨M3, g3, e3, f3, X3, r3⟩ := ih (T + 1) F M2 g2 (by omega) (by omega) (hx.tc ft) (ha.tc ft) X2 r2
    refine ⟨M3, g3, ?_, f2.tr f3, X3, r3⟩
    rw [x_laysSayings_L3, hx.ne, sh2 _ (by omega), if_neg (by rw [zn_le (by omega) (by omega)]; omega), ← hKd, e2', hKd]
    simp only [lt_u]
    rw [zn_addl, e3]
/-- all words are said at a station in an hour -/
theorem xs_laysSayings (hC : OKC C) (hh : h ≤ 12) (hs : s < C.ns) (hs0 : s0 < C.ns) (hT0 : T0 < 2 ^ C.ne) (hx : CX C M) (ha : RvX 21 A M) (hf : LR IX (2 ^ C.ne) (AX C A t s0 T0 h s) f) (hr : rwX h s (2 ^ C.ne) f M) :
    ∃ M' g, x_laysSayings (zn t) (zn h) (zn s) M = some ((), M') ∧ Fq (scl h s (2 ^ C.ne)) M M' ∧ LR IX (2 ^ C.ne) (PX C A t s0 T0 h s) g ∧ rwX h s (2 ^ C.ne) g M' := by
  have b3 := p2_256 hC.ne8
  obtain ⟨M2, g, e2, f2, X2, r2⟩ := xs_sayS (t := t) (s0 := s0) (T0 := T0) (A := A) (f := f) hC (fun S hS => (hf S hS).1) hh hs (2 ^ C.ne) 0 FU M f (by omega) (FU_lt (by omega)) hx ha (XSI.i0 (fun S hS hl => ((hf S hS).2.1 hl).pt)) hr
  refine ⟨M2, g, e2, f2, ?_, r2⟩
  obtain ⟨a, b, c, -⟩ := X2
  exact LR.close hT0 (fun s w _ _ => BB_lt C t s w) (fun h s w hw => vw_le hC A h s w hw) hs0 hs hf a b c
end
