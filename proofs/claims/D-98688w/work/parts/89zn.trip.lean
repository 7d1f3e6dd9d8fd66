set_option maxRecDepth 100000
/-! TRIPS: the reference says words -/
abbrev IY : Nat := 100000000
def rwY (s : Nat) (g : Nat → Nat) (M : PM) : Prop := ∀ T, T < 256 → M.i 94 (256 * s + T) = zn (g T)
abbrev scy (s o j : Nat) : Prop := ca o j ∨ (o = 94 ∧ ∃ T, T < 256 ∧ j = 256 * s + T)
abbrev tcY (o j : Nat) : Prop := ca o j ∨ o = 94 ∨ o = 95
theorem shR_tcY : ∀ q ∈ shR, ¬ tcY q.1 q.2.1 := by decide +kernel
abbrev PY (C : SV) (A : Nat → Int32) (t s0 U0 : Nat) : Nat → Nat → Nat → Nat → Prop := PT C.ns C.nw (BB C t) (vwT C A) s0 U0
abbrev AY (C : SV) (A : Nat → Int32) (t s0 U0 : Nat) : Nat → Nat → Nat → Nat → Prop := AR C.ns C.nw (BB C t) (vwT C A) s0 U0
section
variable {C : SV} {A : Nat → Int32} {M M1 : PM} {t s0 U0 h s w : Nat} {f : Nat → Nat}
theorem scy_tc (s o j : Nat) (q : scy s o j) : tcY o j := q.elim Or.inl (fun w => Or.inr (Or.inl w.1))
theorem CY.tc (h : CY 83 C M) (f : Fq tcY M M1) : CY 83 C M1 := h.fr f shR_tcY (fun o j q => by unfold tcY ca; omega)
theorem RvY.tc (h : RvY 73 A M) (f : Fq tcY M M1) : RvY 73 A M1 := h.fr f (fun j => by unfold tcY ca; omega)
theorem rwY.fa {g : Nat → Nat} (h0 : rwY s g M) (f : Fq ca M M1) : rwY s g M1 := fun S hS => by rw [f.i _ _ (by unfold ca; omega)]; exact h0 S hS
theorem ms_does (h : CY 83 C M) (hw : w < C.nw) (t s : Nat) : m_does (zn t) (zn w) (zn s) M = some (zn (BB C t s w), M) := by
  have b1 := h.ok.ne8
  unfold m_does
  rw [show zn (BB C t s w) = itr (fun e x => x ||| (if PB C t s w e = true then (1 : Int32) <<< (zn e &&& 31) else 0)) C.ne 0 from (bN_z b1 (PB C t s w) (fun e x => x ||| (if PB C t s w e = true then (1 : Int32) <<< (zn e &&& 31) else 0)) (fun _ _ _ => rfl)).symm]
  refine nlp (fun n k s' => m_does_L6 (zn t) (zn w) (zn s) n s' (zn k) M) C.ne FU (FU_lt (by omega)) (fun e x => x ||| (if PB C t s w e = true then (1 : Int32) <<< (zn e &&& 31) else 0)) 0 _ (fun n k hk => ?_) (fun n => ?_)
  · generalize itr (fun e x => x ||| (if PB C t s w e = true then (1 : Int32) <<< (zn e &&& 31) else 0)) k (0 : Int32) = x
    show m_does_L6 (zn t) (zn w) (zn s) (n + 1) x (zn k) M = m_does_L6 (zn t) (zn w) (zn s) n (x ||| (if PB C t s w k = true then (1 : Int32) <<< (zn k &&& 31) else 0)) (zn (k + 1)) M
    rw [m_does_L6, h.ne, if_neg (by rw [zn_le (by omega) (by omega)]; omega), bde (ms_field0 h hk)]
    simp only [jn_u, lt_u, zn_addl]
    unfold PB
    by_cases c1 : zn (C.who k) = zn t
    · rw [if_pos c1, bde (ms_field2 h hk)]
      by_cases c2 : zn (C.wh k) = zn s
      · rw [if_pos c2, bde (ms_field1 h hk), bde (ms_means h hw _)]
        by_cases c3 : mns C w (zn (C.em k))
        · rw [if_pos c3, if_neg (show ¬ (1 : Int32) = 0 by decide)]
          simp [c1, c2, c3]
        · rw [if_neg c3, if_pos rfl]
          simp [c1, c2, c3]
      · rw [if_neg c2]
        simp [c1, c2]
    · rw [if_neg c1]
      simp [c1]
  · generalize itr (fun e x => x ||| (if PB C t s w e = true then (1 : Int32) <<< (zn e &&& 31) else 0)) C.ne (0 : Int32) = x
    show m_does_L6 (zn t) (zn w) (zn s) (n + 1) x (zn C.ne) M = some (x, M)
    rw [m_does_L6, h.ne, if_pos (Int32.le_refl _)]
/-- a word is said from each set -/
theorem ms_sets (hs : s < 6) {b v : Nat} (hb : b < 256) (hv : v ≤ 594) {g0 : Nat → Nat} (hg0 : ∀ S, S < 256 → g0 S ≤ IY) (c1 c2 c4 : Int32) (Kc : PM → Option (Unit × PM)) : ∀ d T F M g, T + d = 256 → d < F → MSI b v g0 T g → rwY s g M →
    ∃ M' g', m_speak_L53 c1 c2 (zn s) c4 (zn v) (zn b) Kc F (zn T) M = Kc M' ∧ Fq (scy s) M M' ∧ MSI b v g0 256 g' ∧ rwY s g' M' := by
  intro d
  induction d with
  | zero =>
    intro T F M g hT hF hI hr
    obtain ⟨F, rfl⟩ : ∃ m, F = m + 1 := ⟨F - 1, by omega⟩
    have e : T = 256 := by omega
    subst e
    refine ⟨M, g, ?_, Fq.rf, hI, hr⟩
    rw [m_speak_L53, if_pos (by decide)]
  | succ d ih =>
    intro T F M g hT hF hI hr
    obtain ⟨F, rfl⟩ : ∃ m, F = m + 1 := ⟨F - 1, by omega⟩
    have hor : T ||| b < 256 := or_lt8 (n := 8) (show T < 2 ^ 8 by omega) hb
    have h1 : g T ≤ 100000000 := Nat.le_trans (hI.1 T) (hg0 T (by omega))
    have h2 : g (T ||| b) ≤ 100000000 := Nat.le_trans (hI.1 _) (hg0 _ hor)
    obtain ⟨N, hN⟩ : ∃ N, N = M.si 94 (256 * s + (T ||| b)) (zn (min (g (T ||| b)) (g T + v))) := ⟨_, rfl⟩
    have fN : Fq (scy s) M N := by rw [hN]; exact Fq.si (c := scy s) Fq.rf (Or.inr ⟨rfl, _, hor, rfl⟩)
    obtain ⟨M3, g3, e3, f3, I3, r3⟩ := ih (T + 1) F N _ (by omega) (by omega) hI.step (fun S hS => by
      rw [hN, si_i]
      by_cases q : S = T ||| b
      · rw [q, ups_eq, if_pos ⟨rfl, rfl⟩]
      · rw [ups_ne q, if_neg (by omega)]; exact hr S hS)
    refine ⟨M3, g3, ?_, fN.tr f3, I3, r3⟩
    rw [m_speak_L53, if_neg (by rw [l_le_zn (by omega) (by omega)]; omega), zn_or, zn_mull, zn_add, zn_add, ck_zn (by omega) (by omega), ck_zn (by omega) (by omega), ck_zn (by omega) (by omega), ix_zn (by omega), ix_zn (by omega), hr T (by omega), hr _ hor, zn_add, imin_zn (by omega) (by omega), ← hN, lt_u, zn_addl, lt_u, e3]
theorem ms_wordsAt (hC : OKC C) (hs : s < C.ns) (hf : ∀ S, S < 256 → f S ≤ IY) (Kc : PM → Option (Unit × PM)) : ∀ d k F M g, k + d = C.nw → d < F → CY 83 C M → RvY 73 A M → WSI C.ns C.nw (BB C t) (vwT C A) s0 U0 IY 256 h s f k g → rwY s g M →
    ∃ M' g', m_speak_L13 (zn t) (zn h) (zn s) Kc F (zn k) M = Kc M' ∧ Fq (scy s) M M' ∧ WSI C.ns C.nw (BB C t) (vwT C A) s0 U0 IY 256 h s f C.nw g' ∧ rwY s g' M' := by
  have b1 := hC.nw10
  have b2 := hC.ns6
  have b3 := p2_256 hC.ne8
  intro d
  induction d with
  | zero =>
    intro k F M g hk hF hy ha hW hr
    obtain ⟨F, rfl⟩ : ∃ m, F = m + 1 := ⟨F - 1, by omega⟩
    have e : k = C.nw := by omega
    subst e
    refine ⟨M, g, ?_, Fq.rf, hW, hr⟩
    rw [m_speak_L13, hy.nw, if_pos (by rw [zn_le (by omega) (by omega)]; omega)]
  | succ d ih =>
    intro k F M g hk hF hy ha hW hr
    obtain ⟨F, rfl⟩ : ∃ m, F = m + 1 := ⟨F - 1, by omega⟩
    have hkn : k < C.nw := by omega
    have hbb := BB_lt C t s k
    obtain ⟨ev, ev2⟩ := vw_e hC A h s hkn
    obtain ⟨M2, e2, f2, -⟩ := ms_tollOf hy hkn (zn s) (A 12 + zn h)
    rw [ev] at e2
    have y2 := hy.fa f2
    have a2 : RvY 73 A M2 := ha.fr f2 (fun j => by unfold ca; omega)
    obtain ⟨Kd, hKd⟩ : ∃ Kd : PM → Option (Unit × PM), Kd = (fun (M7 : PM) => lt (zn k + 1) fun v7 => m_speak_L13 (zn t) (zn h) (zn s) Kc F v7 M7) := ⟨_, rfl⟩
    obtain ⟨M3, g3, e3, f3, I3, r3⟩ := ms_sets (s := s) (by omega) (show BB C t s k < 256 by omega) ev2 (fun S hS => Nat.le_trans (hW.1 S hS) (hf S hS)) (zn t) (zn h) (zn k) Kd 256 0 FU M2 g (by omega) (FU_lt (by omega)) (MSI.i0 _ _ g) (hr.fa f2)
    have e3' : m_speak_L53 (zn t) (zn h) (zn s) (zn k) (zn (vwT C A h s k)) (zn (BB C t s k)) Kd FU 0 M2 = _ := e3
    have f23 : Fq (scy s) M M3 := (f2.mo (d := scy s) (fun o j q => Or.inl q)).tr f3
    have ft := f23.mo (scy_tc s)
    obtain ⟨M4, g4, e4, f4, W4, r4⟩ := ih (k + 1) F M3 g3 (by omega) (by omega) (hy.tc ft) (ha.tc ft) (hW.step hkn I3 (fun S hS w hw => or_lt8 (n := 8) hS (by have := BB_lt C t s w; omega))) r3
    refine ⟨M4, g4, ?_, f23.tr f4, W4, r4⟩
    rw [m_speak_L13, hy.nw, if_neg (by rw [zn_le (by omega) (by omega)]; omega), show ix 12 = 12 from ix_zn (k := 12) (by omega), hy12 ha]
    rw [show (12 : Int32) = zn 12 from rfl, ck_zn (by omega) (by omega), bde e2, bde (ms_does y2 hkn t s), ← hKd, e3', hKd]
    simp only [lt_u]
    rw [zn_addl, e4]
theorem ms_speakAt (hC : OKC C) (hs : s < C.ns) (hs0 : s0 < C.ns) (hU0 : U0 < 256) (Kc : PM → Option (Unit × PM)) (hy : CY 83 C M) (ha : RvY 73 A M) (hf : LR IY 256 (AY C A t s0 U0 h s) f) (hr : rwY s f M) :
    ∃ M' g, m_speak_L13 (zn t) (zn h) (zn s) Kc FU 0 M = Kc M' ∧ Fq (scy s) M M' ∧ LR IY 256 (PY C A t s0 U0 h s) g ∧ rwY s g M' := by
  have b1 := hC.nw10
  have b3 := p2_256 hC.ne8
  obtain ⟨M2, g, e2, f2, W2, r2⟩ := ms_wordsAt (t := t) (s0 := s0) (U0 := U0) (h := h) (A := A) (f := f) hC hs (fun S hS => (hf S hS).1) Kc C.nw 0 FU M f (by omega) (FU_lt (by omega)) hy ha (WSI.i0 (fun S hS hl => ((hf S hS).2.1 hl).pt)) hr
  refine ⟨M2, g, e2, f2, ?_, r2⟩
  obtain ⟨a, b, c⟩ := W2
  exact LR.close (N := 8) hU0 (fun s w _ _ => by have := BB_lt C t s w; show BB C t s w < 256; omega) (fun h s w hw => vw_le hC A h s w hw) hs0 hs hf a b (fun T hT w hw => c w hw T hT)
/-- the table of the reference -/
def taY (C : SV) (G : Nat → Nat → Nat) (M : PM) : Prop := ∀ s, s < C.ns → rwY s (G s) M
theorem taY.say (hC : OKC C) {G : Nat → Nat → Nat} (hT : taY C G M) {g : Nat → Nat} (f : Fq (scy s) M M1) (hr : rwY s g M1) : taY C (fun s' => if s' = s then g else G s') M1 := by
  intro s' hs' T hT'
  show M1.i 94 (256 * s' + T) = zn ((if s' = s then g else G s') T)
  by_cases q : s' = s
  · rw [if_pos q, q]; exact hr T hT'
  · rw [if_neg q, f.i _ _ (fun w => by
      rcases w with w | ⟨-, S, h1, h2⟩
      · unfold ca at w; omega
      · omega)]
    exact hT s' hs' T hT'
theorem ms_speak (hC : OKC C) (hs0 : s0 < C.ns) (hU0 : U0 < 256) : ∀ d s F M G, s + d = C.ns → d < F → CY 83 C M → RvY 73 A M → taY C G M → (∀ s', s' < s → LR IY 256 (PY C A t s0 U0 h s') (G s')) → (∀ s', s ≤ s' → s' < C.ns → LR IY 256 (AY C A t s0 U0 h s') (G s')) →
    ∃ M' G', m_speak_L2 (zn t) (zn h) F (zn s) M = some ((), M') ∧ Fq tcY M M' ∧ taY C G' M' ∧ ∀ s', s' < C.ns → LR IY 256 (PY C A t s0 U0 h s') (G' s') := by
  have b2 := hC.ns6
  intro d
  induction d with
  | zero =>
    intro s F M G hk hF hy ha hT h1 h2
    obtain ⟨F, rfl⟩ : ∃ m, F = m + 1 := ⟨F - 1, by omega⟩
    refine ⟨M, G, ?_, Fq.rf, hT, fun s' hs' => h1 s' (by omega)⟩
    rw [m_speak_L2, hy.ns, if_pos (by rw [zn_le (by omega) (by omega)]; omega)]
  | succ d ih =>
    intro s F M G hk hF hy ha hT h1 h2
    obtain ⟨F, rfl⟩ : ∃ m, F = m + 1 := ⟨F - 1, by omega⟩
    have hs : s < C.ns := by omega
    obtain ⟨Kd, hKd⟩ : ∃ Kd : PM → Option (Unit × PM), Kd = (fun (M8 : PM) => lt (zn s + 1) fun v8 => m_speak_L2 (zn t) (zn h) F v8 M8) := ⟨_, rfl⟩
    obtain ⟨M2, g, e2, f2, L2, r2⟩ := ms_speakAt (t := t) hC hs hs0 hU0 Kd hy ha (h2 s (Nat.le_refl s) hs) (hT s hs)
    have ft := f2.mo (scy_tc s)
    obtain ⟨M3, G3, e3, f3, T3, L3⟩ := ih (s + 1) F M2 (fun s' => if s' = s then g else G s') (by omega) (by omega) (hy.tc ft) (ha.tc ft) (hT.say hC f2 r2) (fun s' hs' => by
      show LR _ _ _ (if s' = s then g else G s')
      by_cases e : s' = s
      · rw [if_pos e, e]; exact L2
      · rw [if_neg e]; exact h1 s' (by omega)) (fun s' q1 q2 => by
      show LR _ _ _ (if s' = s then g else G s')
      rw [if_neg (by omega)]; exact h2 s' (by omega) q2)
    refine ⟨M3, G3, ?_, ft.tr f3, T3, L3⟩
    rw [m_speak_L2, hy.ns, if_neg (by rw [zn_le (by omega) (by omega)]; omega), ← hKd, e2, hKd]
    simp only [lt_u]
    rw [zn_addl, e3]
end
