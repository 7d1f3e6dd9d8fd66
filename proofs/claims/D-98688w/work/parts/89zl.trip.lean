set_option maxRecDepth 100000
/-! TRIPS: the system's table, hour by hour -/
def tab (C : SV) (n : Nat) (G : Nat → Nat → Nat → Nat) (M : PM) : Prop := ∀ h, h ≤ n → ∀ s, s < C.ns → ∀ T, T < 2 ^ C.ne → M.i 65 (sp h s T) = zn (G h s T)
def inP (C : SV) (A : Nat → Int32) (t s0 T0 h : Nat) (G : Nat → Nat → Nat → Nat) : Prop := ∀ h', h' < h → ∀ s, s < C.ns → LR IX (2 ^ C.ne) (PX C A t s0 T0 h' s) (G h' s)
def inZ (C : SV) (n h : Nat) (G : Nat → Nat → Nat → Nat) : Prop := ∀ h', h < h' → h' ≤ n → ∀ s, s < C.ns → ∀ T, T < 2 ^ C.ne → G h' s T = IX
section
variable {C : SV} {A : Nat → Int32} {M M1 : PM} {t s0 T0 h s n : Nat} {G : Nat → Nat → Nat → Nat}
theorem tab.say (hC : OKC C) (hT : tab C n G M) (hs : s < C.ns) {g : Nat → Nat} (f : Fq (scl h s (2 ^ C.ne)) M M1) (hr : rwX h s (2 ^ C.ne) g M1) : tab C n (fun h' s' => if h' = h ∧ s' = s then g else G h' s') M1 := by
  have b2 := hC.ns6
  have b3 := p2_256 hC.ne8
  intro h' hh s' hs' T hT'
  show M1.i 65 (sp h' s' T) = zn ((if h' = h ∧ s' = s then g else G h' s') T)
  by_cases q : h' = h ∧ s' = s
  · rw [if_pos q, q.1, q.2]; exact hr T hT'
  · rw [if_neg q, f.i _ _ (fun w => by
      rcases w with w | ⟨-, S, h1, h2⟩
      · unfold ca at w; omega
      · have := sp_ne (by omega) (by omega) (by omega) (by omega) h2
        exact q ⟨this.1, this.2.1⟩)]
    exact hT h' hh s' hs' T hT'
theorem xs_sayH (hC : OKC C) (hn : n ≤ 12) (hh : h ≤ n) (hs0 : s0 < C.ns) (hT0 : T0 < 2 ^ C.ne) (c2 : Int32) (Kc : PM → Option (Unit × PM)) : ∀ d s F M G, s + d = C.ns → d < F → CX C M → RvX 21 A M → tab C n G M → inP C A t s0 T0 h G → inZ C n h G → (∀ s', s' < s → LR IX (2 ^ C.ne) (PX C A t s0 T0 h s') (G h s')) → (∀ s', s ≤ s' → s' < C.ns → LR IX (2 ^ C.ne) (AX C A t s0 T0 h s') (G h s')) →
    ∃ M' G', x_laysTrip_L62 (zn t) c2 (zn h) Kc F (zn s) M = Kc M' ∧ Fq tcX M M' ∧ tab C n G' M' ∧ inP C A t s0 T0 (h + 1) G' ∧ inZ C n h G' := by
  have b2 := hC.ns6
  intro d
  induction d with
  | zero =>
    intro s F M G hk hF hx ha hT hP hZ h1 h2
    obtain ⟨F, rfl⟩ : ∃ m, F = m + 1 := ⟨F - 1, by omega⟩
    refine ⟨M, G, ?_, Fq.rf, hT, fun h' hh' s' hs' => ?_, hZ⟩
    · rw [x_laysTrip_L62, hx.ns, if_pos (by rw [zn_le (by omega) (by omega)]; omega)]
    · by_cases e : h' = h
      · rw [e]; exact h1 s' (by omega)
      · exact hP h' (by omega) s' hs'
  | succ d ih =>
    intro s F M G hk hF hx ha hT hP hZ h1 h2
    obtain ⟨F, rfl⟩ : ∃ m, F = m + 1 := ⟨F - 1, by omega⟩
    have hs : s < C.ns := by omega
    obtain ⟨M2, g, e2, f2, L2, r2⟩ := xs_laysSayings (t := t) hC (show h ≤ 12 by omega) hs hs0 hT0 hx ha (h2 s (Nat.le_refl s) hs) (fun S hS => hT h hh s hs S hS)
    have ft := f2.mo (scl_tc h s _)
    obtain ⟨M3, G3, e3, f3, r3⟩ := ih (s + 1) F M2 (fun h' s' => if h' = h ∧ s' = s then g else G h' s') (by omega) (by omega) (hx.tc ft) (ha.tc ft) (hT.say hC hs f2 r2) (fun h' hh' s' hs' => by
      show LR _ _ _ (if h' = h ∧ s' = s then g else G h' s')
      rw [if_neg (by omega)]; exact hP h' hh' s' hs') (fun h' q1 q2 s' hs' T hT' => by
      show (if h' = h ∧ s' = s then g else G h' s') T = IX
      rw [if_neg (by omega)]; exact hZ h' q1 q2 s' hs' T hT') (fun s' hs' => by
      show LR _ _ _ (if h = h ∧ s' = s then g else G h s')
      by_cases e : s' = s
      · rw [if_pos ⟨rfl, e⟩, e]; exact L2
      · rw [if_neg (fun w => e w.2)]; exact h1 s' (by omega)) (fun s' q1 q2 => by
      show LR _ _ _ (if h = h ∧ s' = s then g else G h s')
      rw [if_neg (by omega)]; exact h2 s' (by omega) q2)
    refine ⟨M3, G3, ?_, ft.tr f3, r3⟩
    rw [x_laysTrip_L62, hx.ns, if_neg (by rw [zn_le (by omega) (by omega)]; omega), bde e2, lt_u, zn_addl, e3]
theorem xs_goH (hC : OKC C) (hn : n ≤ 12) (hh : h < n) (hs0 : s0 < C.ns) (hT0 : T0 < 2 ^ C.ne) (Kc : PM → Option (Unit × PM)) : ∀ d s F M G, s + d = C.ns → d < F → CX C M → tab C n G M → inP C A t s0 T0 (h + 1) G → inZ C n (h + 1) G → cmY C A t s0 T0 h s 0 0 (G (h + 1)) →
    ∃ M' G', x_laysTrip_L88 (zn t) (zn n) (zn h) Kc F (zn s) M = Kc M' ∧ Fq tcX M M' ∧ tab C n G' M' ∧ inP C A t s0 T0 (h + 1) G' ∧ inZ C n (h + 1) G' ∧ cmY C A t s0 T0 h C.ns 0 0 (G' (h + 1)) := by
  have b2 := hC.ns6
  have b3 := p2_256 hC.ne8
  intro d
  induction d with
  | zero =>
    intro s F M G hk hF hx hT hP hZ hY
    obtain ⟨F, rfl⟩ : ∃ m, F = m + 1 := ⟨F - 1, by omega⟩
    have e : s = C.ns := by omega
    subst e
    refine ⟨M, G, ?_, Fq.rf, hT, hP, hZ, hY⟩
    rw [x_laysTrip_L88]
    simp only [jn_u]
    rw [hx.ns, if_pos (by rw [zn_le (by omega) (by omega)]; omega)]
  | succ d ih =>
    intro s F M G hk hF hx hT hP hZ hY
    obtain ⟨F, rfl⟩ : ∃ m, F = m + 1 := ⟨F - 1, by omega⟩
    have hs : s < C.ns := by omega
    obtain ⟨M2, G2, e2, f2, r2, Y2⟩ := xs_goesOn (t := t) hC (show h + 1 ≤ 12 by omega) hs hx (hP h (by omega) s hs) (fun S hS => hT h (by omega) s hs S hS) (G := G (h + 1)) (fun to hto T hT' => hT (h + 1) (by omega) to hto T hT') hY
    have ft := f2.mo (gcl_tc h)
    obtain ⟨M3, G3, e3, f3, r3⟩ := ih (s + 1) F M2 (fun h' s' => if h' = h + 1 then G2 s' else G h' s') (by omega) (by omega) (hx.tc ft) (fun h' hh' s' hs' T hT' => by
      show M2.i 65 (sp h' s' T) = zn ((if h' = h + 1 then G2 s' else G h' s') T)
      by_cases q : h' = h + 1
      · rw [if_pos q, q]; exact r2 s' hs' T hT'
      · rw [if_neg q, f2.i _ _ (fun w => by
          obtain ⟨-, a, b, h1, h2, h3⟩ := w
          exact q (sp_ne (by omega) (by omega) h1 h2 h3).1)]
        exact hT h' hh' s' hs' T hT') (fun h' hh' s' hs' => by
      show LR _ _ _ (if h' = h + 1 then G2 s' else G h' s')
      rw [if_neg (by omega)]; exact hP h' hh' s' hs') (fun h' q1 q2 s' hs' T hT' => by
      show (if h' = h + 1 then G2 s' else G h' s') T = IX
      rw [if_neg (by omega)]; exact hZ h' q1 q2 s' hs' T hT') (by
      intro a ha b hb
      show isY _ _ ((if h + 1 = h + 1 then G2 a else G (h + 1) a) b)
      rw [if_pos rfl]; exact Y2 a ha b hb)
    refine ⟨M3, G3, ?_, ft.tr f3, r3⟩
    rw [x_laysTrip_L88]
    simp only [jn_u]
    rw [hx.ns, if_neg (by rw [zn_le (by omega) (by omega)]; omega), if_neg (by rw [zn_le (by omega) (by omega)]; omega), bde e2, lt_u, zn_addl, e3]
theorem xs_hours (hC : OKC C) (hn : n ≤ 12) (hs0 : s0 < C.ns) (hT0 : T0 < 2 ^ C.ne) : ∀ d h F M G, h + d = n + 1 → d < F → CX C M → RvX 21 A M → tab C n G M → inP C A t s0 T0 h G → inZ C n h G → (h ≤ n → ∀ s, s < C.ns → LR IX (2 ^ C.ne) (AX C A t s0 T0 h s) (G h s)) →
    ∃ M' G', x_laysTrip_L54 (zn t) (zn n) F (zn h) M = some ((), M') ∧ Fq tcX M M' ∧ tab C n G' M' ∧ inP C A t s0 T0 (n + 1) G' := by
  have b2 := hC.ns6
  have b1 := hC.ns1
  intro d
  induction d with
  | zero =>
    intro h F M G hk hF hx ha hT hP hZ hA
    obtain ⟨F, rfl⟩ : ∃ m, F = m + 1 := ⟨F - 1, by omega⟩
    have e : h = n + 1 := by omega
    subst e
    refine ⟨M, G, ?_, Fq.rf, hT, hP⟩
    rw [x_laysTrip_L54, if_pos (by rw [zn_lt (by omega) (by omega)]; omega)]
  | succ d ih =>
    intro h F M G hk hF hx ha hT hP hZ hA
    obtain ⟨F, rfl⟩ : ∃ m, F = m + 1 := ⟨F - 1, by omega⟩
    obtain ⟨Kd, hKd⟩ : ∃ Kd : PM → Option (Unit × PM), Kd = (fun (M13 : PM) => lt (zn h + 1) fun v9 => x_laysTrip_L54 (zn t) (zn n) F v9 M13) := ⟨_, rfl⟩
    obtain ⟨Ke, hKe⟩ : ∃ Ke : PM → Option (Unit × PM), Ke = (fun (M9 : PM) => x_laysTrip_L88 (zn t) (zn n) (zn h) Kd FU 0 M9) := ⟨_, rfl⟩
    obtain ⟨M2, G2, e2, f2, T2, P2, Z2⟩ := xs_sayH (t := t) hC hn (show h ≤ n by omega) hs0 hT0 (zn n) Ke C.ns 0 FU M G (by omega) (FU_lt (by omega)) hx ha hT hP hZ (fun s' q => absurd q (Nat.not_lt_zero s')) (fun s' _ q => hA (by omega) s' q)
    have e2' : x_laysTrip_L62 (zn t) (zn n) (zn h) Ke FU 0 M = _ := e2
    have x2 := hx.tc f2
    have a2 := ha.tc f2
    have hrun : ∃ M3 G3, x_laysTrip_L88 (zn t) (zn n) (zn h) Kd FU 0 M2 = Kd M3 ∧ Fq tcX M2 M3 ∧ tab C n G3 M3 ∧ inP C A t s0 T0 (h + 1) G3 ∧ inZ C n (h + 1) G3 ∧ (h + 1 ≤ n → ∀ s, s < C.ns → LR IX (2 ^ C.ne) (AX C A t s0 T0 (h + 1) s) (G3 (h + 1) s)) := by
      by_cases g : h < n
      · obtain ⟨M3, G3, e3, f3, T3, P3, Z3, Y3⟩ := xs_goH (A := A) (t := t) (s0 := s0) (T0 := T0) hC hn g hs0 hT0 Kd C.ns 0 FU M2 G2 (by omega) (FU_lt (by omega)) x2 T2 P2 (fun h' q1 q2 => Z2 h' (by omega) q2) (fun a qa b qb => by
          rw [Z2 (h + 1) (by omega) (by omega) a qa b qb]
          exact isY.none IX (fun c => CM.z c))
        refine ⟨M3, G3, e3, f3, T3, P3, Z3, fun _ s hs T hT' => ?_⟩
        exact (Y3 s hs T hT').iff (fun c => CM.ar (fun p => (PX.ok (t := t) (A := A) hC hs0 (Nat.le_refl _) hT0 p).1) hs c)
      · refine ⟨M2, G2, ?_, Fq.rf, T2, P2, fun h' q1 q2 => absurd q2 (by omega), fun q => absurd q (by omega)⟩
        show x_laysTrip_L88 (zn t) (zn n) (zn h) Kd (29999 + 1) 0 M2 = _
        rw [x_laysTrip_L88]
        simp only [jn_u]
        rw [x2.ns, if_neg (by rw [show (0 : Int32) = zn 0 from rfl, zn_le (by omega) (by omega)]; omega), if_pos (by rw [zn_le (by omega) (by omega)]; omega)]
    obtain ⟨M3, G3, e3, f3, T3, P3, Z3, A3⟩ := hrun
    obtain ⟨M4, G4, e4, f4, r4⟩ := ih (h + 1) F M3 G3 (by omega) (by omega) (x2.tc f3) (a2.tc f3) T3 P3 Z3 A3
    refine ⟨M4, G4, ?_, (f2.tr f3).tr f4, r4⟩
    rw [x_laysTrip_L54, if_neg (by rw [zn_lt (by omega) (by omega)]; omega), ← hKd, ← hKe, e2', hKe]
    show x_laysTrip_L88 (zn t) (zn n) (zn h) Kd FU 0 M2 = _
    rw [e3, hKd]
    simp only [lt_u]
    rw [zn_addl, e4]
theorem xs_fill (c1 c2 : Int32) (Kc : PM → Option (Unit × PM)) : ∀ d i F M, i + d = 19968 → d < F → Sh M → (∀ j, j < i → M.i 65 j = zn IX) → ∃ M', x_laysTrip_L2 c1 c2 Kc F (zn i) M = Kc M' ∧ Fq (fun o _ => o = 65) M M' ∧ ∀ j, j < 19968 → M'.i 65 j = zn IX := by
  have sc : ∀ q ∈ shR, ¬ q.1 = 65 := by decide +kernel
  intro d
  induction d with
  | zero =>
    intro i F M hk hF hS hj
    obtain ⟨F, rfl⟩ : ∃ m, F = m + 1 := ⟨F - 1, by omega⟩
    have k65 := kd65 hS
    refine ⟨M, ?_, Fq.rf, fun j q => hj j (by omega)⟩
    rw [x_laysTrip_L2, k65, if_pos (by show zn 19968 ≤ zn i; rw [zn_le (by omega) (by omega)]; omega)]
  | succ d ih =>
    intro i F M hk hF hS hj
    obtain ⟨F, rfl⟩ : ∃ m, F = m + 1 := ⟨F - 1, by omega⟩
    have k65 := kd65 hS
    obtain ⟨N, hN⟩ : ∃ N, N = M.si 65 i (zn IX) := ⟨_, rfl⟩
    have fN : Fq (fun o _ => o = 65) M N := by rw [hN]; exact Fq.si (c := fun o _ => o = 65) Fq.rf rfl
    obtain ⟨M3, e3, f3, r3⟩ := ih (i + 1) F N (by omega) (by omega) (hS.fr fN sc) (fun j q => by
      rw [hN, si_i]
      by_cases e : j = i
      · rw [if_pos ⟨rfl, e⟩]
      · rw [if_neg (fun w => e w.2)]; exact hj j (by omega))
    refine ⟨M3, ?_, fN.tr f3, r3⟩
    rw [x_laysTrip_L2, k65, if_neg (by show ¬ zn 19968 ≤ zn i; rw [zn_le (by omega) (by omega)]; omega), ck_zn (by omega) (by omega), ix_zn (by omega), b9, lt_u, ← hN, lt_u, zn_addl, e3]
theorem xs_laysTrip (hC : OKC C) (hn : n ≤ 12) (ht : t < 4) (hs0 : s0 < C.ns) (hT0 : T0 < 2 ^ C.ne) (hA0 : A t = zn s0) (hA13 : A 13 = zn T0) (hx : CX C M) (ha : RvX 21 A M) :
    ∃ M' G, x_laysTrip (zn t) (zn n) M = some ((), M') ∧ Fq tcX M M' ∧ tab C n G M' ∧ inP C A t s0 T0 (n + 1) G := by
  have b2 := hC.ns6
  have b3 := p2_256 hC.ne8
  obtain ⟨Kd, hKd⟩ : ∃ Kd : PM → Option (Unit × PM), Kd = (fun (M3 : PM) => ck (zn t) 4 <| bd (x_spot 0 (M3.i 22 (ix (zn t))) (M3.i 21 5) M3) fun v3 M4 => ck v3 19968 <| lt (M4.si 65 (ix v3) 0) fun M5 => x_laysTrip_L54 (zn t) (zn n) FU 0 M5) := ⟨_, rfl⟩
  obtain ⟨M2, e2, f2, r2⟩ := xs_fill (zn t) (zn n) Kd 19968 0 FU M (by omega) (FU_lt (by omega)) hx.sh (fun j q => absurd q (Nat.not_lt_zero j))
  have e2' : x_laysTrip_L2 (zn t) (zn n) Kd FU 0 M = _ := e2
  have f2t : Fq tcX M M2 := f2.mo (fun o j q => Or.inr q)
  have x2 := hx.tc f2t
  have a2 := ha.tc f2t
  obtain ⟨N, hN⟩ : ∃ N, N = M2.si 65 (sp 0 s0 T0) (zn 0) := ⟨_, rfl⟩
  have fN : Fq tcX M2 N := by rw [hN]; exact Fq.si (c := tcX) Fq.rf (Or.inr rfl)
  obtain ⟨M3, G3, e3, f3, T3, P3⟩ := xs_hours (t := t) (A := A) hC hn hs0 hT0 (n + 1) 0 FU N (fun h s T => if h = 0 ∧ s = s0 ∧ T = T0 then 0 else IX) (by omega) (FU_lt (by omega)) (x2.tc fN) (a2.tc fN) (fun h hh s hs T hT => by
    show N.i 65 (sp h s T) = zn (if h = 0 ∧ s = s0 ∧ T = T0 then 0 else IX)
    rw [hN, si_i]
    by_cases q : h = 0 ∧ s = s0 ∧ T = T0
    · rw [if_pos q, if_pos ⟨rfl, by rw [q.1, q.2.1, q.2.2]⟩]
    · rw [if_neg q, if_neg (fun w => q (sp_ne (by omega) (by omega) (by omega) (by omega) w.2))]
      exact r2 _ (sp_lt (by omega) (by omega) (by omega))) (fun h' q => absurd q (Nat.not_lt_zero h')) (fun h' q1 _ s _ T _ => by
    show (if h' = 0 ∧ s = s0 ∧ T = T0 then 0 else IX) = IX
    rw [if_neg (by omega)]) (fun _ s hs T hT => by
    show isY IX (AX C A t s0 T0 0 s T) (if 0 = 0 ∧ s = s0 ∧ T = T0 then 0 else IX)
    by_cases q : s = s0 ∧ T = T0
    · rw [if_pos ⟨rfl, q⟩]
      exact ⟨Nat.zero_le _, fun _ => ⟨q.1, q.2, rfl⟩, fun c _ => Nat.zero_le c⟩
    · rw [if_neg (fun w => q w.2)]
      exact isY.none IX (fun c w => q ⟨w.1, w.2.1⟩))
  refine ⟨M3, G3, ?_, (f2t.tr fN).tr f3, T3, P3⟩
  have hsp : x_spot 0 (zn s0) (zn T0) M2 = _ := xs_spot 0 s0 T0 M2
  unfold x_laysTrip
  rw [← hKd, e2', hKd]
  simp only [lt_u]
  rw [ck_zn ht (by omega), ix_zn (by omega), (a2.1 t ht).1, hA0, hx13 a2, hA13, bde hsp, ck_zn (sp_lt (by omega) (by omega) (by omega)) (by unfold sp; omega), ix_zn (by unfold sp; omega)]
  rw [show (M2.si 65 (sp 0 s0 T0) 0) = N from hN.symm]
  exact e3
end
