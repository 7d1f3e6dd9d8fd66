set_option maxRecDepth 100000
theorem goL_le {D : Type} {ln : Nat → Nat → Nat × Option D} {b : Nat → Nat} {e : Nat} (hg : ∀ k p, p ≤ e → p ≤ (ln k p).1 ∧ (ln k p).1 ≤ e) : ∀ f k F p, p ≤ e → (goL ln b e f k F p).1 ≤ e := by
  intro f
  induction f with
  | zero => intro k F p hp; exact hp
  | succ f ih =>
    intro k F p hp
    obtain ⟨g1, g2⟩ := hg k p hp
    rcases hr : ln k p with ⟨q, o⟩
    rw [hr] at g1 g2
    cases o with
    | none => rw [goL_n hr]; exact g2
    | some d =>
      by_cases g : q < e ∧ b q = 59
      · rw [goL_s hr g]; exact ih _ _ _ (by omega)
      · rw [goL_e hr g]; exact g2
theorem goL_P {D : Type} {ln : Nat → Nat → Nat × Option D} {b : Nat → Nat} {e : Nat} (P : Nat → (Nat → D) → Prop) (hs : ∀ k F p q d, P k F → ln k p = (q, some d) → P (k + 1) (exF F k d)) : ∀ f k F p, P k F → ∀ q k' F', goL ln b e f k F p = (q, some (k', F')) → P k' F' := by
  intro f
  induction f with
  | zero => intro k F p hP q k' F' h; cases h
  | succ f ih =>
    intro k F p hP q k' F' h
    rcases hr : ln k p with ⟨q1, o⟩
    cases o with
    | none => rw [goL_n hr] at h; cases h
    | some d =>
      have h2 := hs k F p q1 d hP hr
      by_cases g : q1 < e ∧ b q1 = 59
      · rw [goL_s hr g] at h; exact ih _ _ _ h2 _ _ _ h
      · rw [goL_e hr g] at h
        cases h
        exact h2
theorem lnW_ok {b : Nat → Nat} {e n0 k p q : Nat} {d : DW} (h : lnW b e n0 k p = (q, some d)) : n0 + k ≠ 10 ∧ okW d := by
  unfold lnW at h
  by_cases g1 : n0 + k = 10
  · rw [if_pos g1] at h; cases h
  · rw [if_neg g1] at h
    refine ⟨g1, ?_⟩
    by_cases g2 : p < e ∧ isd (b p) = true
    · have hd := isd_iff.mp g2.2
      rw [if_pos g2] at h
      obtain ⟨hl1, hl2, hl3⟩ := lnl_le b e 6 (sgq b e (p + 1))
      by_cases g3 : lnl b e 6 (sgq b e (p + 1)) = 0
      · rw [if_pos g3] at h; cases h
      · rw [if_neg g3] at h
        cases h
        refine ⟨by show b p - 48 ≤ 9; omega, ?_, ⟨by show 1 ≤ lnl b e 6 (sgq b e (p + 1)); omega, hl1⟩, fun j hj => ?_⟩
        · show sgd b e (p + 1) = -1 ∨ ∃ x, x ≤ 9 ∧ sgd b e (p + 1) = zn x
          unfold sgd
          split
          · rename_i w
            have := isd_iff.mp w.2
            exact Or.inr ⟨b (p + 1) - 48, by omega, rfl⟩
          · exact Or.inl rfl
        · have := isaz_iff.mp (hl3 j hj)
          show b (sgq b e (p + 1) + j) - 97 < 26
          omega
    · rw [if_neg g2] at h; cases h
theorem gW_ok {b : Nat → Nat} {n n0 q k : Nat} {F : Nat → DW} (h0 : n0 ≤ 10) (h : gW b n n0 = (q, some (k, F))) : n0 + k ≤ 10 ∧ ∀ i, i < k → okW (F i) := by
  refine goL_P (fun k F => n0 + k ≤ 10 ∧ ∀ i, i < k → okW (F i)) (fun k F p q d hP hr => ?_) 100 0 dfW 0 ⟨by omega, fun i hi => absurd hi (Nat.not_lt_zero i)⟩ q k F h
  obtain ⟨w1, w2⟩ := lnW_ok hr
  refine ⟨by have := hP.1; omega, fun i hi => ?_⟩
  unfold exF
  by_cases e : i = k
  · rw [if_pos e]; exact w2
  · rw [if_neg e]; exact hP.2 i (by omega)
section
variable {C : SV} {A : Nat → Int32} {M M1 : PM} {nT nU ch : Nat} {bT : Nat → Nat} {U : Nat → Nat → Int32} {K : Nat → Bool × (Nat → Int32) × Nat} {l : List Int64}
theorem ys_words (h : YS C A nT bT nU U ch K l M) (hn : 0 < nT) :
    (∀ k F, gW bT nT C.nw = (nT, some (k, F)) → (C.nw + k ≤ 10 ∧ ∀ i, i < k → okW (F i)) → ∃ M1, m_words M = some (zn k, M1) ∧ Fq gyc M M1 ∧ YS (C.wrd k F) A 0 bT 0 U (ch + 1) K l M1) ∧
    ((¬ ∃ k F, gW bT nT C.nw = (nT, some (k, F))) → ∃ M1, m_words M = some (-1 - zn (gW bT nT C.nw).1, M1) ∧ Fq gyc M M1 ∧ YS C A 0 bT nU U ch K l M1) := by
  have b1 := h.y.ok.nw10
  have t1 := h.t.1.1
  obtain ⟨N, hN⟩ : ∃ N, N = M.si 72 13 0 := ⟨_, rfl⟩
  have f0 : Fq (fun o j => o = 72 ∧ j = 13) M N := by rw [hN]; exact Fq.si (c := fun o j => o = 72 ∧ j = 13) Fq.rf ⟨rfl, rfl⟩
  have shN : Sh N := h.y.sh.fr f0 (by decide +kernel)
  obtain ⟨M1, e1, f1, i17, i15, R1, T1⟩ := ms_beginText (m := 76) (h.t.fr f0 (by omega) (fun j => by omega)) shN (by omega)
  have e1' : m_beginText 76 N = _ := e1
  have i2 : M1.i 72 2 = zn C.nw := by rw [f1.i _ _ (by unfold bgy; omega), f0.i _ _ (by omega)]; exact h.y.nw
  obtain ⟨Kd, hKd⟩ : ∃ Kd : Int32 → PM → Option (Int32 × PM), Kd = (fun (v6 : Int32) (M10 : PM) => bd (m_wasRight M10) fun v7 M11 => if v7 = 0 then (some (((-1) - (M11.i 72 18)), M11)) else (m_words_L91 v6 (fun (M20 : PM) => lt (M20.si 72 29 0) fun M21 => lt (M21.si 72 52 ((M21.i 72 52) + 1)) fun M22 => some (v6, M22)) FU 0 M11)) := ⟨_, rfl⟩
  have hun : m_words M = m_words_L24 Kd FU (zn 0) 1 M1 := by
    unfold m_words
    rw [lt_u, ← hN, bde e1', i15, if_neg (by rw [zn_eq_l (by omega) (by omega)]; omega), hKd]
    rfl
  have hq : ∃ M3 k', m_words_L24 Kd FU (zn 0) 1 M1 = Kd (zn k') M3 ∧ Fq cwY M1 M3 ∧ (((gW bT nT C.nw).2 = none ∧ M3.i 72 18 = zn (gW bT nT C.nw).1) ∨ ∃ k2 F2, (gW bT nT C.nw).2 = some (k2, F2) ∧ ((k' = k2 ∧ RC 78 bT (min nT 76) M3 ∧ M3.i 72 17 = zn (gW bT nT C.nw).1 ∧ yiW C.nw k2 F2 M3) ∨ (M3.i 72 18 = zn (gW bT nT C.nw).1 ∧ (gW bT nT C.nw).1 < min nT 76))) := goY (c := cwY) (ln := lnW bT (min nT 76) C.nw) (yiW C.nw) (by unfold cwY; omega) (fun k F M q hI => by
    have fq := Ma.fq M q
    refine ⟨hI.1, (fq.i _ _ (by omega)).trans hI.2.1, fun i hi => ?_⟩
    obtain ⟨w1, w2, w3, w4, w5⟩ := hI.2.2 i hi
    exact ⟨w1, (fq.i _ _ (by omega)).trans w2, (fq.i _ _ (by omega)).trans w3, (fq.i _ _ (by omega)).trans w4, fun j hj => (fq.i _ _ (by omega)).trans (w5 j hj)⟩) (show min nT 76 ≤ 80 by omega) (m_words_L24 Kd) bodyW Kd (fun n k v2 M => mW_L _ _ _ _ _) (fun k p hp => lnW_ge _ _ _ _ _ hp) (fun k F p M hp hR h17 hI => ms_bodyW (by omega) b1 hp hR h17 hI) 100 0 dfW 0 FU M1 (by omega) (FU_lt (by omega)) (by omega) R1 i17 ⟨by omega, i2, fun i hi => absurd hi (Nat.not_lt_zero i)⟩
  obtain ⟨M3, k', e3, f3, o3⟩ := hq
  have i15' : M3.i 72 15 = zn nT := (f3.i _ _ (by unfold cwY; omega)).trans i15
  have fB : Fq cwB M M3 := ((f0.mo (d := cwB) (fun o j q => Or.inr (Or.inl ⟨q.1, Or.inr (Or.inr q.2)⟩))).tr (f1.mo (d := cwB) (fun o j q => (bgy_ts o j q).elim Or.inl (fun w => Or.inr (Or.inl ⟨w.1, Or.inl w.2⟩))))).tr (f3.mo (d := cwB) (fun o j q => Or.inl (by
    rcases q with q | q
    · unfold ts; omega
    · rw [q.1]; unfold ts; omega)))
  have fQ : Fq yqt M M3 := ((f0.mo (d := yqt) (fun o j q => Or.inr (Or.inl ⟨q.1, Or.inr (Or.inl q.2)⟩))).tr (f1.mo bgy_qt)).tr (f3.mo (d := yqt) (fun o j q => Or.inl (by
    rcases q with q | q
    · unfold ts; omega
    · rw [q.1]; unfold ts; omega)))
  have T3 : TY 0 bT M3 := T1.fr f3 (by unfold cwY; omega) (fun j => by unfold cwY; omega)
  have L3 : LY l M3 := h.ly.fr fB (by unfold cwB ts; omega) (fun j => by unfold cwB ts; omega)
  have gle : (gW bT nT C.nw).1 ≤ min nT 76 := goL_le (fun k p hp => lnW_ge _ _ _ _ _ hp) 100 0 dfW 0 (by omega)
  generalize gW bT nT C.nw = G at o3 gle ⊢
  have bad : ∀ M4, m_wasRight M3 = some (0, M4) → M4.i 72 18 = zn G.1 → Fq (fun o j => o = 72 ∧ (j = 17 ∨ j = 18)) M3 M4 → ∃ M1, m_words M = some (-1 - zn G.1, M1) ∧ Fq gyc M M1 ∧ YS C A 0 bT nU U ch K l M1 := by
    intro M4 ew i18 f4
    have fQ4 : Fq yqt M M4 := fQ.tr (f4.mo (d := yqt) (fun o j q => Or.inl (by rw [q.1]; unfold ts; omega)))
    refine ⟨M4, ?_, fQ4.gy, h.q fQ4 (T3.fr f4 (by omega) (fun j => by omega)) (L3.fr f4 (by omega) (fun j => by omega))⟩
    rw [hun, e3, hKd]
    simp only [lt_u]
    rw [bde ew, if_pos rfl, i18]
  refine ⟨fun k F hG hok => ?_, fun hG => ?_⟩
  · subst hG
    obtain ⟨I1, hF⟩ := hok
    rcases o3 with ⟨o3, -⟩ | ⟨k2, F2, o3, o4⟩
    · cases o3
    · cases o3
      rcases o4 with ⟨hk', R3, j3, I3⟩ | ⟨-, o5⟩
      · subst hk'
        have okC := ok_wrd h.y.ok I1 hF
        have y3 : CY 83 C M3 := h.y.fr fQ (fun q hq w => shR_ymt q hq (Or.inl w)) (fun o j q => by unfold yqt ts; omega)
        obtain ⟨M4, e4, f4, i4, r4⟩ := ms_layW okC y3.sh I1 y3.nw I3.2.2 (fun w hw => y3.2.2.1 w hw) (fun (M20 : PM) => lt (M20.si 72 29 0) fun M21 => lt (M21.si 72 52 ((M21.i 72 52) + 1)) fun M22 => some (zn k', M22))
        have fA : Fq cwB M M4 := fB.tr (f4.mo (d := cwB) (fun o j q => q.elim (fun w => Or.inr (Or.inr w)) (fun w => Or.inr (Or.inl ⟨w.1, Or.inr (Or.inl w.2)⟩))))
        have y4 : CY 83 (C.wrd k' F) M4 := by
          refine ⟨⟨h.y.sh.fr fA shR_cwB, okC⟩, ⟨?_, i4, ?_, ?_⟩, r4, h.y.e fA (fun j => by unfold cwB ts; omega), RuY.fr h.y.ru fA (fun o j q => by unfold cwB ts; omega)⟩
          · rw [fA.i _ _ (by unfold cwB ts; omega)]; exact h.y.ns
          · rw [fA.i _ _ (by unfold cwB ts; omega)]; exact h.y.nt
          · rw [fA.i _ _ (by unfold cwB ts; omega)]; exact h.y.ne
        obtain ⟨e5, f5, s5⟩ := h.new fA (fun o j q => by unfold cwB ts; omega) y4 (h.b.fr fA (fun j => by unfold cwB ts; omega)) (T3.fr f4 (by unfold cwd; omega) (fun j => by unfold cwd; omega)) (L3.fr f4 (by unfold cwd; omega) (fun j => by unfold cwd; omega))
        have ff : Fq gyc M _ := (fA.mo (d := gyc) (fun o j q => q.elim Or.inr (fun w => Or.inl (by omega)))).tr (f5.mo (d := gyc) (fun o j q => Or.inl (by unfold isy at q; omega)))
        refine ⟨_, ?_, ff, s5⟩
        rw [hun, e3, hKd]
        simp only [lt_u]
        simp only [lt_u] at e4
        rw [bde (wr_ok R3 j3 i15' (Nat.le_refl _) (by omega)), if_neg (by decide), e4, show (M4.si 72 29 0).i 72 52 = zn ch from e5, zn_addl]
      · exfalso
        have : nT < min nT 76 := o5
        omega
  · rcases o3 with ⟨o3, o4⟩ | ⟨k2, F2, o3, o4⟩
    · exact bad M3 (wr_f (by omega) o4) o4 Fq.rf
    · rcases o4 with ⟨hk', R3, j3, I3⟩ | ⟨o4, o5⟩
      · have hne : ¬ G.1 = nT := fun w => hG ⟨k2, F2, by rw [← w, ← o3]⟩
        exact bad (Mw M3 G.1) (wr_at R3 j3 i15' (by omega) (by omega)) (Mw.i18 _ _) (Mw.fq _ _)
      · exact bad M3 (wr_f (by omega) o4) o4 Fq.rf
theorem call_words : CallN x_words m_words := by
  refine CallN.xy (fun C A nT bT nU U ch K l hC hA h15 hch ht => ?_)
  rcases Nat.eq_zero_or_pos nT with e0 | hn
  · subst e0
    refine ⟨0, C, A, 0, bT, nU, U, ch, K, l, by omega, h15, fun M h => ?_, fun M h => ?_⟩
    · obtain ⟨M1, e1, f1, -, -, -, T1⟩ := xs_begins (m := 76) h.t h.x.sh (by omega)
      have e1' : x_begins 76 M = _ := e1
      have fq := f1.mo bgx_qt
      refine ⟨M1, ?_, fq.gx, h.q fq T1 (h.lx.fr f1 (by unfold bgx; omega) (fun j => by unfold bgx; omega)), fq.n5, fq.w5⟩
      unfold x_words
      rw [bde e1', if_pos (show zn 0 = 0 from rfl)]
    · have f0 : Fq (fun o j => o = 72 ∧ j = 13) M (M.si 72 13 0) := Fq.si (c := fun o j => o = 72 ∧ j = 13) Fq.rf ⟨rfl, rfl⟩
      obtain ⟨M1, e1, f1, -, i15, -, T1⟩ := ms_beginText (m := 76) (h.t.fr f0 (by omega) (fun j => by omega)) (h.y.sh.fr f0 (by decide +kernel)) (by omega)
      have e1' : m_beginText 76 (M.si 72 13 0) = _ := e1
      have fq : Fq yqt M M1 := (f0.mo (d := yqt) (fun o j q => Or.inr (Or.inl ⟨q.1, Or.inr (Or.inl q.2)⟩))).tr (f1.mo bgy_qt)
      refine ⟨M1, ?_, fq.gy, h.q fq T1 ((h.ly.fr f0 (by omega) (fun j => by omega)).fr f1 (by unfold bgy; omega) (fun j => by unfold bgy; omega))⟩
      unfold m_words
      rw [lt_u, bde e1', i15, if_pos (show zn 0 = 0 from rfl)]
  · by_cases g : ∃ k F, gW bT nT C.nw = (nT, some (k, F))
    · obtain ⟨k, F, hG⟩ := g
      have hok := gW_ok hC.nw10 hG
      exact ⟨zn k, C.wrd k F, A, 0, bT, 0, U, ch + 1, K, l, Nat.le_refl _, h15, fun M h => ((xs_words h hch hn).1 k F hG).2, fun M h => (ys_words h hn).1 k F hG hok⟩
    · exact ⟨_, C, A, 0, bT, nU, U, ch, K, l, by omega, h15, fun M h => (xs_words h hch hn).2 g, fun M h => (ys_words h hn).2 g⟩
end
