set_option maxRecDepth 100000
/-! LAW: what a rule would change -/
def lwd (C C' : SV) (st hr : Int32) (w : Nat) : Int32 := tol C' w st hr - tol C w st hr
def lwF (C C' : SV) (st hr : Int32) (w : Nat) (s : Int32 × Int32 × Int32) : Int32 × Int32 × Int32 := (s.1 + (if lwd C C' st hr w ≤ 0 then 0 else 1), s.2.1 + (if 0 ≤ lwd C C' st hr w then 0 else 1), s.2.2 + lwd C C' st hr w)
def lwS (C C' : SV) (st hr : Int32) (k : Nat) : Int32 × Int32 × Int32 := itr (lwF C C' st hr) k (0, 0, 0)
section
variable {C : SV} {A : Nat → Int32} {M M1 : PM} {nT nU ch n : Nat} {bT b : Nat → Nat} {U : Nat → Nat → Int32} {K : Nat → Bool × (Nat → Int32) × Nat} {l : List Int64}
theorem fq_back {M4 M6 : PM} {r : Option Nat} (f1 : Fq ca M M4) (f2 : Fq ca (M4.sr 20 38 r) M6) : Fq ca M (M6.sr 20 38 (M.r 20 38)) := by
  have g : Fq (fun o j => o = 20 ∧ j = 38) M4 (M4.sr 20 38 r) := Fq.sr (c := fun o j => o = 20 ∧ j = 38) Fq.rf ⟨rfl, rfl⟩
  have g2 : Fq (fun o j => o = 20 ∧ j = 38) M6 (M6.sr 20 38 (M.r 20 38)) := Fq.sr (c := fun o j => o = 20 ∧ j = 38) Fq.rf ⟨rfl, rfl⟩
  have gg : Fq (fun o j => ca o j ∨ (o = 20 ∧ j = 38)) M (M6.sr 20 38 (M.r 20 38)) := (((f1.mo (fun o j w => Or.inl w)).tr (g.mo (fun o j w => Or.inr w))).tr (f2.mo (fun o j w => Or.inl w))).tr (g2.mo (fun o j w => Or.inr w))
  refine ⟨gg.1, gg.2.1, gg.2.2.1, fun o j q => ?_⟩
  by_cases e : o = 20 ∧ j = 38
  · obtain ⟨rfl, rfl⟩ := e
    refine ⟨?_, ?_, by rw [sr_r, if_pos ⟨rfl, rfl⟩]⟩
    · show M6.i 20 38 = M.i 20 38
      rw [f2.i _ _ q]
      show M4.i 20 38 = M.i 20 38
      exact f1.i _ _ q
    · show M6.l 20 38 = M.l 20 38
      rw [f2.l _ _ q]
      show M4.l 20 38 = M.l 20 38
      exact f1.l _ _ q
  · exact gg.2.2.2 o j (fun w => w.elim q e)
theorem fq_both {v : Option Nat} (f : Fq ca M M1) : Fq ca (M.sr 20 38 v) (M1.sr 20 38 v) := by
  have g : Fq (fun o j => o = 20 ∧ j = 38) M (M.sr 20 38 v) := Fq.sr (c := fun o j => o = 20 ∧ j = 38) Fq.rf ⟨rfl, rfl⟩
  have g2 : Fq (fun o j => o = 20 ∧ j = 38) M1 (M1.sr 20 38 v) := Fq.sr (c := fun o j => o = 20 ∧ j = 38) Fq.rf ⟨rfl, rfl⟩
  refine ⟨g2.1.trans (f.1.trans g.1.symm), g2.2.1.trans (f.2.1.trans g.2.1.symm), g2.2.2.1.trans (f.2.2.1.trans g.2.2.1.symm), fun o j q => ⟨?_, ?_, ?_⟩⟩
  · show M1.i o j = M.i o j
    exact f.i _ _ q
  · show M1.l o j = M.l o j
    exact f.l _ _ q
  · rw [sr_r, sr_r]
    by_cases e : o = 20 ∧ j = 38
    · rw [if_pos e, if_pos e]
    · rw [if_neg e, if_neg e]; exact f.r _ _ q
theorem xs_lawL {C' : SV} (h : CX C M) (ha : RvX 21 A M) (hn : C'.nw = C.nw) (h' : CX C' (M.sr 20 38 (M.r 20 39))) (st : Int32) (Kc : Int32 → Int32 → Int32 → PM → Option (Int32 × PM)) : ∃ M', x_law_L39 st (M.r 20 38) Kc FU 0 0 0 0 M = Kc (lwS C C' st (A 12) C.nw).1 (lwS C C' st (A 12) C.nw).2.1 (lwS C C' st (A 12) C.nw).2.2 M' ∧ Fq ca M M' := by
  have b1 := h.ok.nw10
  refine wlp (fun nn k (s : Int32 × Int32 × Int32) M2 => x_law_L39 st (M.r 20 38) Kc nn s.1 s.2.1 s.2.2 (zn k) M2) C.nw FU (FU_lt (by omega)) (lwF C C' st (A 12)) (0, 0, 0) (fun k M2 => Fq ca M M2) (fun o => ∃ M', o = Kc (lwS C C' st (A 12) C.nw).1 (lwS C C' st (A 12) C.nw).2.1 (lwS C C' st (A 12) C.nw).2.2 M' ∧ Fq ca M M') (fun nn k M2 hk hI => ?_) (fun nn M2 hI => ?_) M Fq.rf
  · have x2 := h.fa hI
    have a2 : RvX 21 A M2 := ha.fa hI
    obtain ⟨M4, e4, f4⟩ := xs_tollNow x2 hk st
    rw [hx12 a2] at e4
    have f04 : Fq ca M M4 := hI.tr f4
    have r39 : M4.r 20 39 = M.r 20 39 := f04.r _ _ (by unfold ca; omega)
    have x5 : CX C' (M4.sr 20 38 (M4.r 20 39)) := by
      rw [r39]
      exact h'.fa (fq_both f04)
    obtain ⟨M6, e6, f6⟩ := xs_tollNow x5 (show k < C'.nw by omega) st
    rw [show (M4.sr 20 38 (M4.r 20 39)).i 21 4 = M4.i 21 4 from rfl, hx12 (ha.fa f04)] at e6
    refine ⟨M6.sr 20 38 (M.r 20 38), fq_back f04 f6, ?_⟩
    generalize itr (lwF C C' st (A 12)) k (0, 0, 0) = s
    show x_law_L39 st (M.r 20 38) Kc (nn + 1) s.1 s.2.1 s.2.2 (zn k) M2 = x_law_L39 st (M.r 20 38) Kc nn (s.1 + (if lwd C C' st (A 12) k ≤ 0 then 0 else 1)) (s.2.1 + (if 0 ≤ lwd C C' st (A 12) k then 0 else 1)) (s.2.2 + lwd C C' st (A 12) k) (zn (k + 1)) (M6.sr 20 38 (M.r 20 38))
    rw [x_law_L39, x2.nw, if_neg (by rw [zn_le (by omega) (by omega)]; omega), bde e4, lt_u, lt_u, bde e6]
    simp only [lt_u, zn_addl]
    rfl
  · have x2 := h.fa hI
    refine ⟨M2, ?_, hI⟩
    show x_law_L39 st (M.r 20 38) Kc (nn + 1) (lwS C C' st (A 12) C.nw).1 (lwS C C' st (A 12) C.nw).2.1 (lwS C C' st (A 12) C.nw).2.2 (zn C.nw) M2 = _
    rw [x_law_L39, x2.nw, if_pos (Int32.le_refl _)]
theorem ms_lawA (h : CY 83 C M) (hb : RvY 73 A M) (st c2 : Int32) (Kc : PM → Option (Int32 × PM)) : ∃ M', m_law_L42 st c2 Kc FU 0 M = Kc M' ∧ Fq (fun o j => ca o j ∨ o = 96) M M' ∧ ∀ w, w < C.nw → M'.i 96 w = tol C w st (A 12) := by
  have b1 := h.ok.nw10
  have sc : ∀ q ∈ shR, ¬ (ca q.1 q.2.1 ∨ q.1 = 96) := by decide +kernel
  refine wlp (fun nn k (_ : Unit) M2 => m_law_L42 st c2 Kc nn (zn k) M2) C.nw FU (FU_lt (by omega)) (fun _ s => s) () (fun k M2 => Fq (fun o j => ca o j ∨ o = 96) M M2 ∧ ∀ w, w < k → M2.i 96 w = tol C w st (A 12)) (fun o => ∃ M', o = Kc M' ∧ Fq (fun o j => ca o j ∨ o = 96) M M' ∧ ∀ w, w < C.nw → M'.i 96 w = tol C w st (A 12)) (fun nn k M2 hk hI => ?_) (fun nn M2 hI => ?_) M ⟨Fq.rf, fun i hi => absurd hi (Nat.not_lt_zero i)⟩
  · obtain ⟨f, v⟩ := hI
    have y2 : CY 83 C M2 := h.fr f sc (fun o j q => by unfold ca; omega)
    have b2 : RvY 73 A M2 := hb.fr f (fun j => by unfold ca; omega)
    obtain ⟨M4, e4, f4⟩ := ms_tollNow y2 hk st
    rw [hy12 b2] at e4
    have f5 : Fq (fun o j => ca o j ∨ o = 96) M2 (M4.si 96 k (tol C k st (A 12))) := Fq.si (c := fun o j => ca o j ∨ o = 96) (f4.mo (fun o j w => Or.inl w)) (Or.inr rfl)
    refine ⟨M4.si 96 k (tol C k st (A 12)), ⟨f.tr f5, fun w hw => ?_⟩, ?_⟩
    · rw [si_i]
      by_cases e : w = k
      · rw [if_pos ⟨rfl, e⟩, e]
      · rw [if_neg (fun q => e q.2), f4.i _ _ (by unfold ca; omega)]; exact v w (by omega)
    · show m_law_L42 st c2 Kc (nn + 1) (zn k) M2 = m_law_L42 st c2 Kc nn (zn (k + 1)) (M4.si 96 k (tol C k st (A 12)))
      rw [m_law_L42, y2.nw, if_neg (by rw [zn_le (by omega) (by omega)]; omega), bde e4, ck_zn (by omega) (by omega), ix_zn (by omega), lt_u, zn_addl, lt_u]
  · obtain ⟨f, v⟩ := hI
    have y2 : CY 83 C M2 := h.fr f sc (fun o j q => by unfold ca; omega)
    refine ⟨M2, ?_, f, v⟩
    show m_law_L42 st c2 Kc (nn + 1) (zn C.nw) M2 = _
    rw [m_law_L42, y2.nw, if_pos (Int32.le_refl _)]
theorem ms_lawB {C' : SV} {a : Nat} (h : CY a C' M) (hb : RvY 73 A M) (hn : C'.nw = C.nw) (st : Int32) (c3 : Option Nat) (c4 : Int32) (hv : ∀ w, w < C.nw → M.i 96 w = tol C w st (A 12)) (Kc : Int32 → Int32 → Int32 → PM → Option (Int32 × PM)) : ∃ M', m_law_L133 st c3 c4 Kc FU 0 0 0 0 M = Kc (lwS C C' st (A 12) C.nw).1 (lwS C C' st (A 12) C.nw).2.1 (lwS C C' st (A 12) C.nw).2.2 M' ∧ Fq ca M M' := by
  have b1 := h.ok.nw10
  refine wlp (fun nn k (s : Int32 × Int32 × Int32) M2 => m_law_L133 st c3 c4 Kc nn s.1 s.2.1 s.2.2 (zn k) M2) C.nw FU (FU_lt (by omega)) (lwF C C' st (A 12)) (0, 0, 0) (fun k M2 => Fq ca M M2) (fun o => ∃ M', o = Kc (lwS C C' st (A 12) C.nw).1 (lwS C C' st (A 12) C.nw).2.1 (lwS C C' st (A 12) C.nw).2.2 M' ∧ Fq ca M M') (fun nn k M2 hk hI => ?_) (fun nn M2 hI => ?_) M Fq.rf
  · have y2 := h.fa hI
    have b2 : RvY 73 A M2 := hb.fa hI
    obtain ⟨M4, e4, f4⟩ := ms_tollNow y2 (show k < C'.nw by omega) st
    rw [hy12 b2] at e4
    have i96 : M4.i 96 k = tol C k st (A 12) := by rw [(hI.tr f4).i _ _ (by unfold ca; omega)]; exact hv k hk
    refine ⟨M4, hI.tr f4, ?_⟩
    generalize itr (lwF C C' st (A 12)) k (0, 0, 0) = s
    show m_law_L133 st c3 c4 Kc (nn + 1) s.1 s.2.1 s.2.2 (zn k) M2 = m_law_L133 st c3 c4 Kc nn (s.1 + (if lwd C C' st (A 12) k ≤ 0 then 0 else 1)) (s.2.1 + (if 0 ≤ lwd C C' st (A 12) k then 0 else 1)) (s.2.2 + lwd C C' st (A 12) k) (zn (k + 1)) M4
    rw [m_law_L133, y2.nw, if_neg (by rw [zn_le (by omega) (by omega)]; omega), bde e4, ck_zn (by omega) (by omega), ix_zn (by omega), i96]
    simp only [lt_u, zn_addl]
    rfl
  · have y2 := h.fa hI
    refine ⟨M2, ?_, hI⟩
    show m_law_L133 st c3 c4 Kc (nn + 1) (lwS C C' st (A 12) C.nw).1 (lwS C C' st (A 12) C.nw).2.1 (lwS C C' st (A 12) C.nw).2.2 (zn C.nw) M2 = _
    rw [m_law_L133, y2.nw, if_pos (by rw [hn]; exact Int32.le_refl _)]
end
