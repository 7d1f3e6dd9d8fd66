set_option maxRecDepth 100000
section
variable {C : SV} {A : Nat → Int32} {M M1 : PM} {nT nU ch : Nat} {bT : Nat → Nat} {U : Nat → Nat → Int32} {K : Nat → Bool × (Nat → Int32) × Nat} {l : List Int64}
theorem ys_errands (h : YS C A nT bT nU U ch K l M) (hA : OKA C A) (hn : 0 < nT) :
    (∀ k F, gE bT nT C.nt C.ns C.ne = (nT, some (k, F)) → ∃ M1, m_errands M = some (zn k, M1) ∧ Fq gyc M M1 ∧ YS (C.err k F) (A) 0 bT 0 U (ch + 1) K l M1) ∧
    ((¬ ∃ k F, gE bT nT C.nt C.ns C.ne = (nT, some (k, F))) → ∃ M1, m_errands M = some (-1 - zn (gE bT nT C.nt C.ns C.ne).1, M1) ∧ Fq gyc M M1 ∧ YS C A 0 bT nU U ch K l M1) := by
  have b1 := h.y.ok.ne8
  have b4 := h.y.ok.nt4
  have b2 := h.y.ok.ns1
  have b3 := h.y.ok.ns6
  have t1 := h.t.1.1
  obtain ⟨N, hN⟩ : ∃ N, N = M.si 72 13 0 := ⟨_, rfl⟩
  have f0 : Fq (fun o j => o = 72 ∧ j = 13) M N := by rw [hN]; exact Fq.si (c := fun o j => o = 72 ∧ j = 13) Fq.rf ⟨rfl, rfl⟩
  have shN : Sh N := h.y.sh.fr f0 (by decide +kernel)
  obtain ⟨M1, e1, f1, i17, i15, R1, T1⟩ := ms_beginText (m := 76) (h.t.fr f0 (by omega) (fun j => by omega)) shN (by omega)
  have e1' : m_beginText 76 N = _ := e1
  have i6 : M1.i 72 6 = zn C.nt := by rw [f1.i _ _ (by unfold bgy; omega), f0.i _ _ (by omega)]; exact h.y.nt
  have j7 : M1.i 72 7 = zn C.ne := by rw [f1.i _ _ (by unfold bgy; omega), f0.i _ _ (by omega)]; exact h.y.ne
  have i1 : M1.i 72 1 = zn C.ns := by rw [f1.i _ _ (by unfold bgy; omega), f0.i _ _ (by omega)]; exact h.y.ns
  obtain ⟨Kd, hKd⟩ : ∃ Kd : Int32 → PM → Option (Int32 × PM), Kd = (fun (v8 : Int32) (M14 : PM) => bd (m_wasRight M14) fun v9 M15 => if v9 = 0 then (some (((-1) - (M15.i 72 18)), M15)) else (m_errands_L163 v8 (fun (M20 : PM) => lt (M20.si 72 7 ((M20.i 72 7) + v8)) fun M21 => lt (M21.si 72 29 0) fun M22 => lt (M22.si 72 52 ((M22.i 72 52) + 1)) fun M23 => some (v8, M23)) FU 0 M15)) := ⟨_, rfl⟩
  have hun : m_errands M = m_errands_L24 Kd FU (zn 0) 1 M1 := by
    unfold m_errands
    rw [lt_u, ← hN, bde e1', i15, if_neg (by rw [zn_eq_l (by omega) (by omega)]; omega), hKd]
    rfl
  have hq : ∃ M3 k', m_errands_L24 Kd FU (zn 0) 1 M1 = Kd (zn k') M3 ∧ Fq cwY M1 M3 ∧ (((gE bT nT C.nt C.ns C.ne).2 = none ∧ M3.i 72 18 = zn (gE bT nT C.nt C.ns C.ne).1) ∨ ∃ k2 F2, (gE bT nT C.nt C.ns C.ne).2 = some (k2, F2) ∧ ((k' = k2 ∧ RC 78 bT (min nT 76) M3 ∧ M3.i 72 17 = zn (gE bT nT C.nt C.ns C.ne).1 ∧ yiE C.nt C.ns C.ne k2 F2 M3) ∨ (M3.i 72 18 = zn (gE bT nT C.nt C.ns C.ne).1 ∧ (gE bT nT C.nt C.ns C.ne).1 < min nT 76))) := goY (c := cwY) (ln := lnE bT (min nT 76) C.nt C.ns C.ne) (yiE C.nt C.ns C.ne) (by unfold cwY; omega) (fun k F M q hI => by
    have fq := Ma.fq M q
    refine ⟨hI.1, ⟨(fq.i _ _ (by omega)).trans hI.2.1.1, (fq.i _ _ (by omega)).trans hI.2.1.2⟩, (fq.i _ _ (by omega)).trans hI.2.2.1, fun i hi => ?_⟩
    obtain ⟨w1, w2, w3, w4, w5⟩ := hI.2.2.2 i hi
    exact ⟨w1, (fq.i _ _ (by omega)).trans w2, (fq.i _ _ (by omega)).trans w3, (fq.i _ _ (by omega)).trans w4, (fq.i _ _ (by omega)).trans w5⟩) (show min nT 76 ≤ 80 by omega) (m_errands_L24 Kd) bodyE Kd (fun n k v2 M => mE_L _ _ _ _ _) (fun k p hp => lnE_ge _ _ _ _ _ _ _ hp) (fun k F p M hp hR h17 hI => ms_bodyE (by omega) b4 b2 b3 hp hR h17 hI) 100 0 dfE 0 FU M1 (by omega) (FU_lt (by omega)) (by omega) R1 i17 ⟨by omega, ⟨i6, i1⟩, j7, fun i hi => absurd hi (Nat.not_lt_zero i)⟩
  obtain ⟨M3, k', e3, f3, o3⟩ := hq
  have i15' : M3.i 72 15 = zn nT := (f3.i _ _ (by unfold cwY; omega)).trans i15
  have fB : Fq ceB M M3 := ((f0.mo (d := ceB) (fun o j q => Or.inr (Or.inl ⟨q.1, Or.inr (Or.inr q.2)⟩))).tr (f1.mo (d := ceB) (fun o j q => (bgy_ts o j q).elim Or.inl (fun w => Or.inr (Or.inl ⟨w.1, Or.inl w.2⟩))))).tr (f3.mo (d := ceB) (fun o j q => Or.inl (by
    rcases q with q | q
    · unfold ts; omega
    · rw [q.1]; unfold ts; omega)))
  have fQ : Fq yqt M M3 := ((f0.mo (d := yqt) (fun o j q => Or.inr (Or.inl ⟨q.1, Or.inr (Or.inl q.2)⟩))).tr (f1.mo bgy_qt)).tr (f3.mo (d := yqt) (fun o j q => Or.inl (by
    rcases q with q | q
    · unfold ts; omega
    · rw [q.1]; unfold ts; omega)))
  have T3 : TY 0 bT M3 := T1.fr f3 (by unfold cwY; omega) (fun j => by unfold cwY; omega)
  have L3 : LY l M3 := h.ly.fr fB (by unfold ceB ts; omega) (fun j => by unfold ceB ts; omega)
  have gle : (gE bT nT C.nt C.ns C.ne).1 ≤ min nT 76 := goL_le (fun k p hp => lnE_ge _ _ _ _ _ _ _ hp) 100 0 dfE 0 (by omega)
  have hok : ∀ q k F, gE bT nT C.nt C.ns C.ne = (q, some (k, F)) → C.ne + k ≤ 8 ∧ ∀ i, i < k → okE C.nt C.ns (F i) := fun q k F hG => gE_ok b1 hG
  generalize gE bT nT C.nt C.ns C.ne = G at o3 gle hok ⊢
  have bad : ∀ M4, m_wasRight M3 = some (0, M4) → M4.i 72 18 = zn G.1 → Fq (fun o j => o = 72 ∧ (j = 17 ∨ j = 18)) M3 M4 → ∃ M1, m_errands M = some (-1 - zn G.1, M1) ∧ Fq gyc M M1 ∧ YS C A 0 bT nU U ch K l M1 := by
    intro M4 ew i18 f4
    have fQ4 : Fq yqt M M4 := fQ.tr (f4.mo (d := yqt) (fun o j q => Or.inl (by rw [q.1]; unfold ts; omega)))
    refine ⟨M4, ?_, fQ4.gy, h.q fQ4 (T3.fr f4 (by omega) (fun j => by omega)) (L3.fr f4 (by omega) (fun j => by omega))⟩
    rw [hun, e3, hKd]
    simp only [lt_u]
    rw [bde ew, if_pos rfl, i18]
  refine ⟨fun k F hG => ?_, fun hG => ?_⟩
  · subst hG
    obtain ⟨I1, hF⟩ := hok _ _ _ rfl
    rcases o3 with ⟨o3, -⟩ | ⟨k2, F2, o3, o4⟩
    · cases o3
    · cases o3
      rcases o4 with ⟨hk', R3, j3, I3⟩ | ⟨-, o5⟩
      · subst hk'
        have okC := ok_err h.y.ok I1 hF
        have y3 : CY 83 C M3 := h.y.fr fQ (fun q hq w => shR_ymt q hq (Or.inl w)) (fun o j q => by unfold yqt ts; omega)
        have a3 : RvY 73 A M3 := h.b.fr fQ (fun j => by unfold yqt ts; omega)
        have v3 := y3.e (M1 := M3) (c := fun _ _ => False) Fq.rf (fun j => id)
        obtain ⟨Ke, hKe⟩ : ∃ Ke : PM → Option (Int32 × PM), Ke = (fun (M20 : PM) => lt (M20.si 72 7 ((M20.i 72 7) + zn k')) fun M21 => lt (M21.si 72 29 0) fun M22 => lt (M22.si 72 52 ((M22.i 72 52) + 1)) fun M23 => some (zn k', M23)) := ⟨_, rfl⟩
        obtain ⟨M4, e4, f4, v4⟩ := ms_layE I1 y3.ne (fun i hi => (I3.2.2.2 i hi).2) v3 Ke
        obtain ⟨M5, hM5⟩ : ∃ M5, M5 = M4.si 72 7 (zn (C.ne + k')) := ⟨_, rfl⟩
        have f5' : Fq (fun o j => o = 72 ∧ j = 7) M4 M5 := by rw [hM5]; exact Fq.si (c := fun o j => o = 72 ∧ j = 7) Fq.rf ⟨rfl, rfl⟩
        have f34 : Fq (fun o j => o = 77 ∨ (o = 72 ∧ j = 7)) M3 M5 := (f4.mo (fun o j w => Or.inl w)).tr (f5'.mo (fun o j w => Or.inr w))
        have fA : Fq ceB M M5 := fB.tr (f34.mo (d := ceB) (fun o j q => q.elim (fun w => Or.inr (Or.inr w)) (fun w => Or.inr (Or.inl ⟨w.1, Or.inr (Or.inl w.2)⟩))))
        have i7 : M5.i 72 7 = zn (C.ne + k') := by rw [hM5, si_i, if_pos ⟨rfl, rfl⟩]
        have v5 : ∀ e, e < C.ne + k' → M5.i 77 (4 * e + 0) = zn ((C.err k' F).who e) ∧ M5.i 77 (4 * e + 1) = zn ((C.err k' F).em e) ∧ M5.i 77 (4 * e + 2) = zn ((C.err k' F).wh e) ∧ M5.i 77 (4 * e + 3) = zn ((C.err k' F).wo e) := fun e he => by
          rw [f5'.i _ _ (by omega), f5'.i _ _ (by omega), f5'.i _ _ (by omega), f5'.i _ _ (by omega)]; exact v4 e he
        have y4 : CY 83 (C.err k' F) M5 := by
          refine ⟨⟨h.y.sh.fr fA shR_ceB, okC⟩, ⟨?_, ?_, ?_, i7⟩, h.y.w fA (fun o j q1 q2 => by unfold ceB ts; omega), v5, RuY.fr h.y.ru fA (fun o j q => by unfold ceB ts; omega)⟩
          · rw [fA.i _ _ (by unfold ceB ts; omega)]; exact h.y.ns
          · rw [fA.i _ _ (by unfold ceB ts; omega)]; exact h.y.nw
          · rw [fA.i _ _ (by unfold ceB ts; omega)]; exact h.y.nt
        obtain ⟨e5, f5, s5⟩ := h.new fA (fun o j q => by unfold ceB ts; omega) y4 (a3.fr f34 (fun j => by omega)) (T3.fr f34 (by omega) (fun j => by omega)) (L3.fr f34 (by omega) (fun j => by omega))
        have ff : Fq gyc M _ := (fA.mo (d := gyc) (fun o j q => q.elim Or.inr (fun w => Or.inl (by omega)))).tr (f5.mo (d := gyc) (fun o j q => Or.inl (by unfold isy at q; omega)))
        refine ⟨_, ?_, ff, s5⟩
        have i7' : M4.i 72 7 = zn C.ne := by rw [f4.i _ _ (by unfold ced; omega)]; exact y3.ne
        rw [hun, e3, hKd]
        simp only [lt_u]
        simp only [lt_u] at hKe
        rw [bde (wr_ok R3 j3 i15' (Nat.le_refl _) (by omega)), if_neg (by decide), ← hKe, e4, hKe]
        simp only [i7', zn_add]
        rw [← hM5, e5, zn_addl]
      · exfalso
        have : nT < min nT 76 := o5
        omega
  · rcases o3 with ⟨o3, o4⟩ | ⟨k2, F2, o3, o4⟩
    · exact bad M3 (wr_f (by omega) o4) o4 Fq.rf
    · rcases o4 with ⟨hk', R3, j3, I3⟩ | ⟨o4, o5⟩
      · have hne : ¬ G.1 = nT := fun w => hG ⟨k2, F2, by rw [← w, ← o3]⟩
        exact bad (Mw M3 G.1) (wr_at R3 j3 i15' (by omega) (by omega)) (Mw.i18 _ _) (Mw.fq _ _)
      · exact bad M3 (wr_f (by omega) o4) o4 Fq.rf
theorem call_errands : CallN x_errands m_errands := by
  refine CallN.xy (fun C A nT bT nU U ch K l hC hA h15 hch ht => ?_)
  rcases Nat.eq_zero_or_pos nT with e0 | hn
  · subst e0
    refine ⟨0, C, A, 0, bT, nU, U, ch, K, l, by omega, h15, fun M h => ?_, fun M h => ?_⟩
    · obtain ⟨M1, e1, f1, -, -, -, T1⟩ := xs_begins (m := 76) h.t h.x.sh (by omega)
      have e1' : x_begins 76 M = _ := e1
      have fq := f1.mo bgx_qt
      refine ⟨M1, ?_, fq.gx, h.q fq T1 (h.lx.fr f1 (by unfold bgx; omega) (fun j => by unfold bgx; omega)), fq.n5, fq.w5⟩
      unfold x_errands
      rw [bde e1', if_pos (show zn 0 = 0 from rfl)]
    · have f0 : Fq (fun o j => o = 72 ∧ j = 13) M (M.si 72 13 0) := Fq.si (c := fun o j => o = 72 ∧ j = 13) Fq.rf ⟨rfl, rfl⟩
      obtain ⟨M1, e1, f1, -, i15, -, T1⟩ := ms_beginText (m := 76) (h.t.fr f0 (by omega) (fun j => by omega)) (h.y.sh.fr f0 (by decide +kernel)) (by omega)
      have e1' : m_beginText 76 (M.si 72 13 0) = _ := e1
      have fq : Fq yqt M M1 := (f0.mo (d := yqt) (fun o j q => Or.inr (Or.inl ⟨q.1, Or.inr (Or.inl q.2)⟩))).tr (f1.mo bgy_qt)
      refine ⟨M1, ?_, fq.gy, h.q fq T1 ((h.ly.fr f0 (by omega) (fun j => by omega)).fr f1 (by unfold bgy; omega) (fun j => by unfold bgy; omega))⟩
      unfold m_errands
      rw [lt_u, bde e1', i15, if_pos (show zn 0 = 0 from rfl)]
  · by_cases g : ∃ k F, gE bT nT C.nt C.ns C.ne = (nT, some (k, F))
    · obtain ⟨k, F, hG⟩ := g
      exact ⟨zn k, C.err k F, A, 0, bT, 0, U, ch + 1, K, l, Nat.le_refl _, h15, fun M h => (xs_errands h hch hn).1 k F hG, fun M h => (ys_errands h hA hn).1 k F hG⟩
    · exact ⟨_, C, A, 0, bT, nU, U, ch, K, l, by omega, h15, fun M h => (xs_errands h hch hn).2 g, fun M h => (ys_errands h hA hn).2 g⟩
end
