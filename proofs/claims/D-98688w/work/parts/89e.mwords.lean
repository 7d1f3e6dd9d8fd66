set_option maxRecDepth 100000
section
variable {M M1 : PM} {b : Nat → Nat} {e p n0 k : Nat} {F : Nat → DW}
theorem ms_bodyW (he : e ≤ 80) (hn0 : n0 ≤ 10) (hp : p ≤ e) (hR : RC 78 b e M) (h17 : M.i 72 17 = zn p) (hI : yiW n0 k F M) : ∃ M', bodyW k M = some ((), M') ∧ Fq cwY M M' ∧ (((lnW b e n0 k p).2 = none ∧ M'.i 72 18 = zn (lnW b e n0 k p).1) ∨ ∃ d, (lnW b e n0 k p).2 = some d ∧ ((RC 78 b e M' ∧ M'.i 72 17 = zn (lnW b e n0 k p).1 ∧ yiW n0 (k + 1) (exF F k d) M') ∨ (M'.i 72 18 = zn (lnW b e n0 k p).1 ∧ (lnW b e n0 k p).1 < e ∧ b (lnW b e n0 k p).1 ≠ 59))) := by
  obtain ⟨i0, i1, i2⟩ := hI
  unfold lnW bodyW
  by_cases g1 : n0 + k = 10
  · rw [if_pos g1]
    refine ⟨Mw M p, ?_, (Mw.fq M p).mo (fun o x w => Or.inr w), Or.inl ⟨rfl, Mw.i18 M p⟩⟩
    rw [i1, zn_add, if_pos (by rw [g1]; rfl), h17]
    exact ps_fault hR h17
  · rw [if_neg g1]
    have hk : k < 10 := by omega
    have nb : ¬ M.i 72 2 + zn k = 10 := by rw [i1, zn_add, zn_eq_l (by omega) (by omega)]; exact g1
    have ho := ps_one48 hR h17 (show p ≤ 1000 by omega)
    have e2k : (2 : Int32) * zn k = zn (2 * k) := zn_mull k 2
    by_cases g2 : p < e ∧ isd (b p) = true
    · have hd := isd_iff.mp g2.2
      rw [if_pos g2]
      rw [if_pos g2] at ho
      obtain ⟨N, hN⟩ : ∃ N, N = (Ma M (p + 1)).si 82 (2 * k) (zn (b p - 48)) := ⟨_, rfl⟩
      have fN2 : Fq (fun o x => o = 82 ∧ x = 2 * k) (Ma M (p + 1)) N := by rw [hN]; exact Fq.si (c := fun o x => o = 82 ∧ x = 2 * k) Fq.rf ⟨rfl, rfl⟩
      have fN : Fq (fun o x => (o = 82 ∧ x = 2 * k) ∨ (o = 72 ∧ x = 17)) M N := ((Ma.fq M (p + 1)).mo (fun o x w => Or.inr w)).tr (fN2.mo (fun o x w => Or.inl w))
      have RN : RC 78 b e N := (Ma.rc hR (p + 1)).fr fN2 (fun x w => by omega) (fun x => by omega)
      have N17 : N.i 72 17 = zn (p + 1) := (fN2.i _ _ (by omega)).trans (Ma.i17 M (p + 1))
      have hb1 := hR.2.2.2.2.2.1 (p + 1)
      obtain ⟨J, hJ⟩ : ∃ J : Int32 → PM → Option (Unit × PM), J = (fun (v3 : Int32) (M4 : PM) => ck (zn (2 * k + 1)) 40 <| lt (M4.si 82 (ix (zn (2 * k + 1))) v3) fun M5 => ck (zn k) 10 <| lt (M5.si 81 (ix (zn k)) 0) fun M6 => m_readWord_L66 (zn k) FU M6) := ⟨_, rfl⟩
      have hun : m_readWord (zn k) M = (bd (m_here N) fun v8 M16 => bd (m_in v8 48 57 M16) fun v9 M17 => if v9 = 0 then (J (-1) M17) else (bd (m_oneOf 48 10 M17) fun v10 M18 => J v10 M18)) := by
        unfold m_readWord
        simp only [e2k, zn_addl]
        rw [← hJ, bde ho, ck_zn (by omega) (by omega), lt_u, ix_zn (by omega), ← hN, bde (ps_fine RN)]
        simp only [jn_u]
        rw [if_neg (by decide)]
      -- the second digit, if there is one
      have h2 : ∃ M3, m_readWord (zn k) M = J (sgd b e (p + 1)) M3 ∧ Fq (fun o x => o = 72 ∧ x = 17) N M3 ∧ M3.i 72 17 = zn (sgq b e (p + 1)) := by
        rw [hun, bde (ps_here RN N17 (by omega)), m_in32]
        have ho2 := ps_one48 RN N17 (show p + 1 ≤ 1000 by omega)
        unfold sgd sgq
        by_cases g3 : p + 1 < e ∧ isd (b (p + 1)) = true
        · rw [if_pos g3] at ho2
          rw [if_pos g3, if_pos g3, if_pos (show 48 ≤ hv b e (p + 1) ∧ hv b e (p + 1) ≤ 57 by rw [hv_dg hb1]; exact g3), bd_s, if_neg (by decide), bde ho2]
          exact ⟨_, rfl, Ma.fq N _, Ma.i17 N _⟩
        · rw [if_neg g3] at ho2
          rw [if_neg g3, if_neg g3, if_neg (show ¬ (48 ≤ hv b e (p + 1) ∧ hv b e (p + 1) ≤ 57) by rw [hv_dg hb1]; exact g3), bd_s, if_pos rfl]
          exact ⟨N, rfl, Fq.rf, N17⟩
      obtain ⟨M3, e3, f3, j3⟩ := h2
      obtain ⟨hq1, hq2⟩ := sgq_le b e (p + 1)
      have hq3 := hq2 (by omega)
      have hsd : sgd b e (p + 1) = -1 ∨ ∃ x, x ≤ 9 ∧ sgd b e (p + 1) = zn x := by
        unfold sgd
        split
        · rename_i w
          have := isd_iff.mp w.2
          exact Or.inr ⟨b (p + 1) - 48, by omega, rfl⟩
        · exact Or.inl rfl
      generalize sgq b e (p + 1) = q at hq1 hq2 hq3 j3 ⊢
      generalize sgd b e (p + 1) = sg at e3 hsd ⊢
      have R3 : RC 78 b e M3 := RN.fr f3 (fun x w => by omega) (fun x => by omega)
      obtain ⟨M6, hM6⟩ : ∃ M6, M6 = (M3.si 82 (2 * k + 1) sg).si 81 k 0 := ⟨_, rfl⟩
      have f6 : Fq (fun o x => (o = 82 ∧ x = 2 * k + 1) ∨ (o = 81 ∧ x = k)) M3 M6 := by
        rw [hM6]
        exact Fq.si (c := fun o x => (o = 82 ∧ x = 2 * k + 1) ∨ (o = 81 ∧ x = k)) (Fq.si (c := fun o x => (o = 82 ∧ x = 2 * k + 1) ∨ (o = 81 ∧ x = k)) Fq.rf (Or.inl ⟨rfl, rfl⟩)) (Or.inr ⟨rfl, rfl⟩)
      have R6 : RC 78 b e M6 := R3.fr f6 (fun x w => by omega) (fun x => by omega)
      have j6 : M6.i 72 17 = zn q := (f6.i _ _ (by omega)).trans j3
      have e81 : M6.i 81 k = zn 0 := by rw [hM6, si_i, if_pos ⟨rfl, rfl⟩]; rfl
      have F6 : Fq cwY M M6 := ((fN.mo (d := cwY) (fun o x w => by unfold cwY; omega)).tr (f3.mo (d := cwY) (fun o x w => by unfold cwY; omega))).tr (f6.mo (d := cwY) (fun o x w => by unfold cwY; omega))
      have hun2 : m_readWord (zn k) M = m_readWord_L66 (zn k) FU M6 := by
        rw [e3, hJ]
        simp only [lt_u]
        rw [ck_zn (by omega) (by omega), ix_zn (by omega), ck_zn (by omega) (by omega), ix_zn (by omega), ← hM6]
      rw [if_neg nb, hun2]
      by_cases g4 : q < e ∧ isaz (b q) = true
      · obtain ⟨M', e1, f1, i81, r1, o1⟩ := ms_lnl hk he 6 0 FU q M6 (by omega) (FU_lt (by omega)) hq3 R6 j6 e81 (fun _ => g4)
        rw [Nat.zero_add] at i81
        obtain ⟨hl1, hl2, hl3⟩ := lnl_le b e 6 q
        have hl0 : ¬ lnl b e 6 q = 0 := by
          show ¬ lnl b e (5 + 1) q = 0
          unfold lnl
          rw [if_pos g4]
          omega
        generalize lnl b e 6 q = L at *
        rw [if_neg hl0]
        have F7 : Fq cwY M M' := F6.tr (f1.mo (d := cwY) (fun o x w => by unfold cl8 at w; unfold cwY; omega))
        refine ⟨M', e1, F7, Or.inr ⟨_, rfl, ?_⟩⟩
        rcases o1 with ⟨o1, o2⟩ | ⟨o1, o2, o3⟩
        · refine Or.inl ⟨o1, o2, by omega, by rw [F7.i _ _ (by unfold cwY; omega)]; exact i1, fun i hi => ?_⟩
          unfold exF
          by_cases ei : i = k
          · rw [if_pos ei, ei]
            refine ⟨⟨by show b p - 48 ≤ 9; omega, hsd, ⟨by show 1 ≤ L; omega, hl1⟩, fun j hj => ?_⟩, ?_, ?_, i81, fun j hj => ?_⟩
            · have := isaz_iff.mp (hl3 j hj)
              show b (q + j) - 97 < 26
              omega
            · rw [f1.i _ _ (by unfold cl8; omega), f6.i _ _ (by omega), f3.i _ _ (by omega), hN, si_i, if_pos ⟨rfl, rfl⟩]
            · rw [f1.i _ _ (by unfold cl8; omega), hM6, si_i, if_neg (by omega), si_i, if_pos ⟨rfl, rfl⟩]
            · have := r1 j hj
              rw [Nat.zero_add] at this
              exact this
          · rw [if_neg ei]
            obtain ⟨w1, w2, w3, w4, w5⟩ := i2 i (by omega)
            refine ⟨w1, ?_, ?_, ?_, fun j hj => ?_⟩
            · rw [f1.i _ _ (by unfold cl8; omega), f6.i _ _ (by omega), f3.i _ _ (by omega), fN.i _ _ (by omega)]; exact w2
            · rw [f1.i _ _ (by unfold cl8; omega), f6.i _ _ (by omega), f3.i _ _ (by omega), fN.i _ _ (by omega)]; exact w3
            · rw [f1.i _ _ (by unfold cl8; omega), f6.i _ _ (by omega), f3.i _ _ (by omega), fN.i _ _ (by omega)]; exact w4
            · have hj6 : j < 6 := by have := w1.2.2.1.2; omega
              rw [f1.i _ _ (by unfold cl8; omega), f6.i _ _ (by omega), f3.i _ _ (by omega), fN.i _ _ (by omega)]; exact w5 j hj
        · refine Or.inr ⟨o1, o2, ?_⟩
          have := isaz_iff.mp o3
          show b (q + L) ≠ 59
          omega
      · have hl0 : lnl b e 6 q = 0 := by
          show lnl b e (5 + 1) q = 0
          unfold lnl
          rw [if_neg g4]
        rw [hl0, if_pos rfl]
        have ho3 := ps_one97 R6 j6 (show q ≤ 1000 by omega)
        rw [if_neg g4] at ho3
        obtain ⟨M7, hM7⟩ : ∃ M7, M7 = ((Mw M6 q).si 80 (6 * k + 0) (zn 0)).si 81 k (zn (0 + 1)) := ⟨_, rfl⟩
        have f7 : Fq (cl8 k 0) M6 M7 := by
          rw [hM7]
          exact Fq.si (c := cl8 k 0) (Fq.si (c := cl8 k 0) ((Mw.fq M6 q).mo (fun o x w => Or.inr (Or.inr w))) (Or.inl ⟨rfl, Nat.le_refl _⟩)) (Or.inr (Or.inl ⟨rfl, rfl⟩))
        have j7 : M7.i 72 18 = zn q := by rw [hM7, si_i, if_neg (by omega), si_i, if_neg (by omega)]; exact Mw.i18 M6 q
        have e9 : ((Mw M6 q).si 80 (6 * k + 0) (zn 0)).i 81 k = zn 0 := by rw [si_i, if_neg (by omega), (Mw.fq M6 q).i _ _ (by omega)]; exact e81
        refine ⟨M7, ?_, F6.tr (f7.mo (d := cwY) (fun o x w => by unfold cl8 at w; unfold cwY; omega)), Or.inl ⟨rfl, j7⟩⟩
        show m_readWord_L66 (zn k) (29999 + 1) M6 = _
        rw [ms_l66 hk 29999 R6 j6 (by omega), e81, if_neg (show ¬ (¬ zn 0 = 0 ∧ ¬ (q < e ∧ isaz (b q) = true)) from fun w => w.1 rfl), if_neg (by decide), bde ho3, zn_mull, zn_add, ck_zn (by omega) (by omega), ix_zn (by omega), show (Int32.toInt8 ((Int32.toInt8 0).toInt32)).toInt32 = zn 0 from bb8 0 (by omega), lt_u, e9, zn_addl, lt_u, ← hM7]
        show m_readWord_L66 (zn k) (29998 + 1) M7 = _
        rw [m_readWord_L66, bde (pf_fine (show q < 1000 by omega) j7), if_pos rfl]
    · rw [if_neg g2, if_neg nb]
      rw [if_neg g2] at ho
      obtain ⟨M6, hM6⟩ : ∃ M6, M6 = (((Mw M p).si 82 (2 * k) 0).si 82 (2 * k + 1) (-1)).si 81 k 0 := ⟨_, rfl⟩
      have f6 : Fq (fun o x => o = 82 ∨ o = 81) (Mw M p) M6 := by
        rw [hM6]
        exact Fq.si (c := fun o x => o = 82 ∨ o = 81) (Fq.si (c := fun o x => o = 82 ∨ o = 81) (Fq.si (c := fun o x => o = 82 ∨ o = 81) Fq.rf (Or.inl rfl)) (Or.inl rfl)) (Or.inr rfl)
      have j6 : M6.i 72 18 = zn p := (f6.i _ _ (by omega)).trans (Mw.i18 M p)
      have j5 : ((Mw M p).si 82 (2 * k) 0).i 72 18 = zn p := by rw [si_i, if_neg (by omega)]; exact Mw.i18 M p
      refine ⟨M6, ?_, ((Mw.fq M p).mo (d := cwY) (fun o x w => Or.inr w)).tr (f6.mo (d := cwY) (fun o x w => by unfold cwY; omega)), Or.inl ⟨rfl, j6⟩⟩
      unfold m_readWord
      simp only [e2k, zn_addl]
      rw [bde ho, ck_zn (by omega) (by omega), lt_u, ix_zn (by omega), bde (pf_fine (show p < 1000 by omega) j5)]
      simp only [jn_u, lt_u]
      rw [if_pos (by trivial), ck_zn (by omega) (by omega), ix_zn (by omega), ck_zn (by omega) (by omega), ix_zn (by omega), ← hM6]
      show m_readWord_L66 (zn k) (29999 + 1) M6 = _
      rw [m_readWord_L66, bde (pf_fine (show p < 1000 by omega) j6), if_pos rfl]
end
