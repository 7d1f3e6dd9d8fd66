set_option maxRecDepth 100000
/-! ERRANDS: the reference reads a line -/
def tE3 (k : Nat) (M : PM) : Option (Unit × PM) := bd (m_need 61 M) fun _ M14 => bd (m_number 2 M14) fun v9 M15 => ck ((4 * zn k) + 3) 40 <| lt (M15.si 82 (ix ((4 * zn k) + 3)) v9) fun M16 => some ((), M16)
def tE2 (k : Nat) (M : PM) : Option (Unit × PM) := bd (m_oneOf 48 (M.i 72 1) M) fun v8 M12 => ck ((4 * zn k) + 2) 40 <| lt (M12.si 82 (ix ((4 * zn k) + 2)) v8) fun M13 => tE3 k M13
def tE1 (k : Nat) (M : PM) : Option (Unit × PM) := bd (m_oneOf 48 10 M) fun v7 M10 => ck ((4 * zn k) + 1) 40 <| lt (M10.si 82 (ix ((4 * zn k) + 1)) v7) fun M11 => tE2 k M11
def bodyE (k : Nat) (M : PM) : Option (Unit × PM) := if (M.i 72 7) + zn k = 8 then m_fault (M.i 72 17) M else bd (m_oneOf 97 (M.i 72 6) M) fun v6 M8 => ck (4 * zn k) 40 <| lt (M8.si 82 (ix (4 * zn k)) v6) fun M9 => tE1 k M9
theorem mE_L (Kc : Int32 → PM → Option (Int32 × PM)) (n k : Nat) (v2 : Int32) (M : PM) : m_errands_L24 Kc (n + 1) (zn k) v2 M = if v2 = 0 then Kc (zn k) M else bd (m_fine M) fun v3 M5 => if v3 = 0 then Kc (zn k) M5 else bd (bodyE k M5) fun _ M6 => bd (m_passes 59 M6) fun v5 M7 => m_errands_L24 Kc n (zn (k + 1)) v5 M7 := by
  rw [m_errands_L24]
  simp only [jn_u, lt_u]
  by_cases h : v2 = 0
  · rw [if_pos h, if_pos h]
  · rw [if_neg h, if_neg h]
    congr 1
    funext v3 M5
    by_cases h3 : v3 = 0
    · rw [if_pos h3, if_pos h3]
    · rw [if_neg h3, if_neg h3]
      unfold bodyE tE1 tE2 tE3
      by_cases h4 : M5.i 72 7 + zn k = 8
      · rw [if_pos h4, if_pos h4, zn_addl k 1]
      · rw [if_neg h4, if_neg h4]
        simp only [bd_bd, bd_ck, lt_u, bd_s, zn_addl k 1]
section
variable {M M1 : PM} {b : Nat → Nat} {e p n0 k nt ns : Nat} {F : Nat → DE}
theorem pf_E3 (hk : k < 8) (hp : p < 1000) (h : M.i 72 18 = zn p) : ∃ M', tE3 k M = some ((), M') ∧ Fq cwY M M' ∧ M'.i 72 18 = zn p := by
  have e4k : (4 : Int32) * zn k = zn (4 * k) := zn_mull k 4
  unfold tE3
  simp only [e4k, zn_addl]
  rw [bde (pf_need hp h 61), bde (pf_number hp h 2), ck_zn (by omega) (by omega), ix_zn (by omega), lt_u]
  exact ⟨_, rfl, Fq.si (c := cwY) Fq.rf (Or.inl (by omega)), by rw [si_i, if_neg (by omega)]; exact h⟩
theorem pf_E2 (hk : k < 8) (hp : p < 1000) (h : M.i 72 18 = zn p) : ∃ M', tE2 k M = some ((), M') ∧ Fq cwY M M' ∧ M'.i 72 18 = zn p := by
  have e4k : (4 : Int32) * zn k = zn (4 * k) := zn_mull k 4
  unfold tE2
  simp only [e4k, zn_addl]
  rw [bde (pf_oneOf hp h 48 _), ck_zn (by omega) (by omega), ix_zn (by omega), lt_u]
  obtain ⟨M', e1, f1, i1⟩ := pf_E3 (M := M.si 82 (4 * k + 2) 0) hk hp (by rw [si_i, if_neg (by omega)]; exact h)
  exact ⟨M', e1, (Fq.si (c := cwY) Fq.rf (Or.inl (by omega))).tr f1, i1⟩
theorem pf_E1 (hk : k < 8) (hp : p < 1000) (h : M.i 72 18 = zn p) : ∃ M', tE1 k M = some ((), M') ∧ Fq cwY M M' ∧ M'.i 72 18 = zn p := by
  have e4k : (4 : Int32) * zn k = zn (4 * k) := zn_mull k 4
  unfold tE1
  simp only [e4k, zn_addl]
  rw [bde (pf_oneOf hp h 48 10), ck_zn (by omega) (by omega), ix_zn (by omega), lt_u]
  obtain ⟨M', e1, f1, i1⟩ := pf_E2 (M := M.si 82 (4 * k + 1) 0) hk hp (by rw [si_i, if_neg (by omega)]; exact h)
  exact ⟨M', e1, (Fq.si (c := cwY) Fq.rf (Or.inl (by omega))).tr f1, i1⟩
def yiE (nt ns n0 k : Nat) (F : Nat → DE) (M : PM) : Prop := n0 + k ≤ 8 ∧ (M.i 72 6 = zn nt ∧ M.i 72 1 = zn ns) ∧ M.i 72 7 = zn n0 ∧ ∀ i, i < k → okE nt ns (F i) ∧ M.i 82 (4 * i) = zn (F i).1 ∧ M.i 82 (4 * i + 1) = zn (F i).2.1 ∧ M.i 82 (4 * i + 2) = zn (F i).2.2.1 ∧ M.i 82 (4 * i + 3) = zn (F i).2.2.2
theorem ps_oneA (h : RC 78 b e M) (h17 : M.i 72 17 = zn p) (hp : p ≤ 1000) (h6 : nt ≤ 6) : m_oneOf 97 (zn nt) M = if p < e ∧ 97 ≤ b p ∧ b p < 97 + nt then some (zn (b p - 97), Ma M (p + 1)) else some (0, Mw M p) := ps_oneOf h h17 hp (f := 97) (d := nt) (by omega) (by omega)
theorem ms_bodyE (he : e ≤ 80) (hnt : nt ≤ 4) (h1 : 1 ≤ ns) (h6 : ns ≤ 6) (hp : p ≤ e) (hR : RC 78 b e M) (h17 : M.i 72 17 = zn p) (hI : yiE nt ns n0 k F M) : ∃ M', bodyE k M = some ((), M') ∧ Fq cwY M M' ∧ (((lnE b e nt ns n0 k p).2 = none ∧ M'.i 72 18 = zn (lnE b e nt ns n0 k p).1) ∨ ∃ d, (lnE b e nt ns n0 k p).2 = some d ∧ ((RC 78 b e M' ∧ M'.i 72 17 = zn (lnE b e nt ns n0 k p).1 ∧ yiE nt ns n0 (k + 1) (exF F k d) M') ∨ (M'.i 72 18 = zn (lnE b e nt ns n0 k p).1 ∧ (lnE b e nt ns n0 k p).1 < e ∧ b (lnE b e nt ns n0 k p).1 ≠ 59))) := by
  obtain ⟨i0, ⟨it, is⟩, i1, i2⟩ := hI
  unfold lnE bodyE
  by_cases g1 : n0 + k = 8
  · rw [if_pos g1]
    refine ⟨Mw M p, ?_, (Mw.fq M p).mo (fun o x w => Or.inr w), Or.inl ⟨rfl, Mw.i18 M p⟩⟩
    rw [i1, zn_add, if_pos (by rw [g1]; rfl), h17]
    exact ps_fault hR h17
  · rw [if_neg g1]
    have nb : ¬ M.i 72 7 + zn k = 8 := by rw [i1, zn_add, zn_eq_l (by omega) (by omega)]; exact g1
    have ho := ps_oneA (nt := nt) hR h17 (show p ≤ 1000 by omega) (by omega)
    have e4k : (4 : Int32) * zn k = zn (4 * k) := zn_mull k 4
    rw [if_neg nb, it]
    simp only [e4k]
    by_cases g2 : p < e ∧ 97 ≤ b p ∧ b p < 97 + nt
    · rw [if_pos g2]
      rw [if_pos g2] at ho
      rw [bde ho, ck_zn (by omega) (by omega), ix_zn (by omega), lt_u]
      obtain ⟨N, hN⟩ : ∃ N, N = (Ma M (p + 1)).si 82 (4 * k) (zn (b p - 97)) := ⟨_, rfl⟩
      have fN2 : Fq (fun o x => o = 82 ∧ x = 4 * k) (Ma M (p + 1)) N := by rw [hN]; exact Fq.si (c := fun o x => o = 82 ∧ x = 4 * k) Fq.rf ⟨rfl, rfl⟩
      have fN : Fq (fun o x => (o = 82 ∧ x = 4 * k) ∨ (o = 72 ∧ x = 17)) M N := ((Ma.fq M (p + 1)).mo (fun o x w => Or.inr w)).tr (fN2.mo (fun o x w => Or.inl w))
      have RN : RC 78 b e N := (Ma.rc hR (p + 1)).fr fN2 (fun x w => by omega) (fun x => by omega)
      have N17 : N.i 72 17 = zn (p + 1) := (fN2.i _ _ (by omega)).trans (Ma.i17 M (p + 1))
      have N82 : N.i 82 (4 * k) = zn (b p - 97) := by rw [hN, si_i, if_pos ⟨rfl, rfl⟩]
      have FN : Fq cwY M N := fN.mo (d := cwY) (fun o x w => by unfold cwY; omega)
      rw [← hN]
      have ho1 := ps_one48 RN N17 (show p + 1 ≤ 1000 by omega)
      by_cases g3 : p + 1 < e ∧ isd (b (p + 1)) = true
      · have hd1 := isd_iff.mp g3.2
        rw [if_pos g3]
        rw [if_pos g3, show p + 1 + 1 = p + 2 from rfl] at ho1
        unfold tE1
        simp only [e4k, zn_addl]
        rw [bde ho1, ck_zn (by omega) (by omega), ix_zn (by omega), lt_u]
        obtain ⟨N2, hN2⟩ : ∃ N2, N2 = (Ma N (p + 2)).si 82 (4 * k + 1) (zn (b (p + 1) - 48)) := ⟨_, rfl⟩
        have fA2 : Fq (fun o x => o = 82 ∧ x = 4 * k + 1) (Ma N (p + 2)) N2 := by rw [hN2]; exact Fq.si (c := fun o x => o = 82 ∧ x = 4 * k + 1) Fq.rf ⟨rfl, rfl⟩
        have fN2' : Fq (fun o x => (o = 82 ∧ x = 4 * k + 1) ∨ (o = 72 ∧ x = 17)) N N2 := ((Ma.fq N (p + 2)).mo (fun o x w => Or.inr w)).tr (fA2.mo (fun o x w => Or.inl w))
        have RN2 : RC 78 b e N2 := (Ma.rc RN (p + 2)).fr fA2 (fun x w => by omega) (fun x => by omega)
        have N217 : N2.i 72 17 = zn (p + 2) := (fA2.i _ _ (by omega)).trans (Ma.i17 N (p + 2))
        have N282 : N2.i 82 (4 * k + 1) = zn (b (p + 1) - 48) := by rw [hN2, si_i, if_pos ⟨rfl, rfl⟩]
        have N2s : N2.i 72 1 = zn ns := by rw [fN2'.i _ _ (by omega), fN.i _ _ (by omega)]; exact is
        have FN2 : Fq cwY M N2 := FN.tr (fN2'.mo (d := cwY) (fun o x w => by unfold cwY; omega))
        rw [← hN2]
        have ho2 := ps_oneN RN2 N217 (show p + 2 ≤ 1000 by omega) h1 h6
        by_cases g4 : p + 2 < e ∧ 48 ≤ b (p + 2) ∧ b (p + 2) < 48 + ns
        · rw [if_pos g4]
          rw [if_pos g4, show p + 2 + 1 = p + 3 from rfl] at ho2
          unfold tE2
          rw [N2s]
          simp only [e4k, zn_addl]
          rw [bde ho2, ck_zn (by omega) (by omega), ix_zn (by omega), lt_u]
          obtain ⟨N3, hN3⟩ : ∃ N3, N3 = (Ma N2 (p + 3)).si 82 (4 * k + 2) (zn (b (p + 2) - 48)) := ⟨_, rfl⟩
          have fA3 : Fq (fun o x => o = 82 ∧ x = 4 * k + 2) (Ma N2 (p + 3)) N3 := by rw [hN3]; exact Fq.si (c := fun o x => o = 82 ∧ x = 4 * k + 2) Fq.rf ⟨rfl, rfl⟩
          have fN3 : Fq (fun o x => (o = 82 ∧ x = 4 * k + 2) ∨ (o = 72 ∧ x = 17)) N2 N3 := ((Ma.fq N2 (p + 3)).mo (fun o x w => Or.inr w)).tr (fA3.mo (fun o x w => Or.inl w))
          have RN3 : RC 78 b e N3 := (Ma.rc RN2 (p + 3)).fr fA3 (fun x w => by omega) (fun x => by omega)
          have N317 : N3.i 72 17 = zn (p + 3) := (fA3.i _ _ (by omega)).trans (Ma.i17 N2 (p + 3))
          have N382 : N3.i 82 (4 * k + 2) = zn (b (p + 2) - 48) := by rw [hN3, si_i, if_pos ⟨rfl, rfl⟩]
          have FN3 : Fq cwY M N3 := FN2.tr (fN3.mo (d := cwY) (fun o x w => by unfold cwY; omega))
          rw [← hN3]
          have hnd : m_need 61 N3 = _ := ps_need (d := 61) RN3 N317 (show p + 3 ≤ 1000 by omega) (by omega)
          unfold tE3
          simp only [e4k, zn_addl]
          by_cases g5 : p + 3 < e ∧ b (p + 3) = 61
          · rw [if_pos g5]
            rw [if_pos g5, show p + 3 + 1 = p + 4 from rfl] at hnd
            have hnum : m_number 2 (Ma N3 (p + 4)) = _ := ps_number (d := 1) (Ma.rc RN3 (p + 4)) (Ma.i17 N3 _) (show p + 4 + 1 < 1000 by omega) (by omega)
            rw [bde hnd]
            by_cases g6 : p + 4 < e ∧ isd (b (p + 4)) = true
            · rw [if_pos g6]
              rw [if_pos g6] at hnum
              obtain ⟨m1, m2, m3⟩ := num2 b e (p + 4) (by omega)
              rw [show 1 + 1 = 2 from rfl] at hnum
              rw [bde hnum, ck_zn (by omega) (by omega), ix_zn (by omega), lt_u]
              generalize num b e 2 (p + 4) 0 = r at hnum m1 m2 m3 ⊢
              obtain ⟨M6, hM6⟩ : ∃ M6, M6 = (Ma (Ma N3 (p + 4)) r.1).si 82 (4 * k + 3) (zn r.2) := ⟨_, rfl⟩
              have f5 : Fq (fun o x => o = 82 ∧ x = 4 * k + 3) (Ma (Ma N3 (p + 4)) r.1) M6 := by rw [hM6]; exact Fq.si (c := fun o x => o = 82 ∧ x = 4 * k + 3) Fq.rf ⟨rfl, rfl⟩
              have f6 : Fq (fun o x => (o = 82 ∧ x = 4 * k + 3) ∨ (o = 72 ∧ x = 17)) N3 M6 := (((Ma.fq N3 (p + 4)).tr (Ma.fq _ r.1)).mo (fun o x w => Or.inr w)).tr (f5.mo (fun o x w => Or.inl w))
              rw [← hM6]
              refine ⟨M6, rfl, FN3.tr (f6.mo (d := cwY) (fun o x w => by unfold cwY; omega)), Or.inr ⟨_, rfl, Or.inl ⟨RN3.fr f6 (fun x w => by omega) (fun x => by omega), ?_, by omega, ⟨?_, ?_⟩, ?_, fun i hi => ?_⟩⟩⟩
              · rw [f5.i _ _ (by omega)]; exact Ma.i17 _ _
              · rw [f6.i _ _ (by omega), fN3.i _ _ (by omega), fN2'.i _ _ (by omega), fN.i _ _ (by omega)]; exact it
              · rw [f6.i _ _ (by omega), fN3.i _ _ (by omega)]; exact N2s
              · rw [f6.i _ _ (by omega), fN3.i _ _ (by omega), fN2'.i _ _ (by omega), fN.i _ _ (by omega)]; exact i1
              · unfold exF
                by_cases ei : i = k
                · rw [if_pos ei, ei]
                  refine ⟨⟨by show b p - 97 < nt; omega, by show b (p + 1) - 48 ≤ 9; omega, by show b (p + 2) - 48 < ns; omega, m3⟩, ?_, ?_, ?_, ?_⟩
                  · rw [f6.i _ _ (by omega), fN3.i _ _ (by omega), fN2'.i _ _ (by omega)]; exact N82
                  · rw [f6.i _ _ (by omega), fN3.i _ _ (by omega)]; exact N282
                  · rw [f6.i _ _ (by omega)]; exact N382
                  · rw [hM6, si_i, if_pos ⟨rfl, rfl⟩]
                · rw [if_neg ei]
                  obtain ⟨w1, w2, w3, w4, w5⟩ := i2 i (by omega)
                  refine ⟨w1, ?_, ?_, ?_, ?_⟩
                  · rw [f6.i _ _ (by omega), fN3.i _ _ (by omega), fN2'.i _ _ (by omega), fN.i _ _ (by omega)]; exact w2
                  · rw [f6.i _ _ (by omega), fN3.i _ _ (by omega), fN2'.i _ _ (by omega), fN.i _ _ (by omega)]; exact w3
                  · rw [f6.i _ _ (by omega), fN3.i _ _ (by omega), fN2'.i _ _ (by omega), fN.i _ _ (by omega)]; exact w4
                  · rw [f6.i _ _ (by omega), fN3.i _ _ (by omega), fN2'.i _ _ (by omega), fN.i _ _ (by omega)]; exact w5
            · rw [if_neg g6]
              rw [if_neg g6] at hnum
              have fW : Fq (fun o x => o = 82 ∨ (o = 72 ∧ (x = 17 ∨ x = 18))) N3 ((Mw (Ma N3 (p + 4)) (p + 4)).si 82 (4 * k + 3) 0) := Fq.si (c := fun o x => o = 82 ∨ (o = 72 ∧ (x = 17 ∨ x = 18))) (((Ma.fq N3 (p + 4)).mo (fun o x w => Or.inr ⟨w.1, Or.inl w.2⟩)).tr ((Mw.fq _ _).mo (fun o x w => Or.inr w))) (Or.inl rfl)
              rw [bde hnum, ck_zn (by omega) (by omega), ix_zn (by omega), lt_u]
              exact ⟨_, rfl, FN3.tr (fW.mo (d := cwY) (fun o x w => by unfold cwY; omega)), Or.inl ⟨rfl, by rw [si_i, if_neg (by omega)]; exact Mw.i18 _ _⟩⟩
          · rw [if_neg g5]
            rw [if_neg g5] at hnd
            have hnum := pf_number (show p + 3 < 1000 by omega) (Mw.i18 N3 (p + 3)) 2
            have fW : Fq (fun o x => o = 82 ∨ (o = 72 ∧ (x = 17 ∨ x = 18))) N3 ((Mw N3 (p + 3)).si 82 (4 * k + 3) 0) := Fq.si (c := fun o x => o = 82 ∨ (o = 72 ∧ (x = 17 ∨ x = 18))) ((Mw.fq _ _).mo (fun o x w => Or.inr w)) (Or.inl rfl)
            rw [bde hnd, bde hnum, ck_zn (by omega) (by omega), ix_zn (by omega), lt_u]
            exact ⟨_, rfl, FN3.tr (fW.mo (d := cwY) (fun o x w => by unfold cwY; omega)), Or.inl ⟨rfl, by rw [si_i, if_neg (by omega)]; exact Mw.i18 _ _⟩⟩
        · rw [if_neg g4]
          rw [if_neg g4] at ho2
          unfold tE2
          rw [N2s]
          simp only [e4k, zn_addl]
          rw [bde ho2, ck_zn (by omega) (by omega), ix_zn (by omega), lt_u]
          have fW : Fq cwY N2 ((Mw N2 (p + 2)).si 82 (4 * k + 2) 0) := Fq.si (c := cwY) ((Mw.fq _ _).mo (d := cwY) (fun o x w => Or.inr w)) (Or.inl (by omega))
          obtain ⟨M', e9, f9, i9⟩ := pf_E3 (k := k) (p := p + 2) (M := (Mw N2 (p + 2)).si 82 (4 * k + 2) 0) (by omega) (by omega) (by rw [si_i, if_neg (by omega)]; exact Mw.i18 _ _)
          exact ⟨M', e9, (FN2.tr fW).tr f9, Or.inl ⟨by trivial, i9⟩⟩
      · rw [if_neg g3]
        rw [if_neg g3] at ho1
        unfold tE1
        simp only [e4k, zn_addl]
        rw [bde ho1, ck_zn (by omega) (by omega), ix_zn (by omega), lt_u]
        have fW : Fq cwY N ((Mw N (p + 1)).si 82 (4 * k + 1) 0) := Fq.si (c := cwY) ((Mw.fq _ _).mo (d := cwY) (fun o x w => Or.inr w)) (Or.inl (by omega))
        obtain ⟨M', e9, f9, i9⟩ := pf_E2 (k := k) (p := p + 1) (M := (Mw N (p + 1)).si 82 (4 * k + 1) 0) (by omega) (by omega) (by rw [si_i, if_neg (by omega)]; exact Mw.i18 _ _)
        exact ⟨M', e9, (FN.tr fW).tr f9, Or.inl ⟨by trivial, i9⟩⟩
    · rw [if_neg g2]
      rw [if_neg g2] at ho
      rw [bde ho, ck_zn (by omega) (by omega), ix_zn (by omega), lt_u]
      have fW : Fq cwY M ((Mw M p).si 82 (4 * k) 0) := Fq.si (c := cwY) ((Mw.fq _ _).mo (d := cwY) (fun o x w => Or.inr w)) (Or.inl (by omega))
      obtain ⟨M', e9, f9, i9⟩ := pf_E1 (k := k) (p := p) (M := (Mw M p).si 82 (4 * k) 0) (by omega) (by omega) (by rw [si_i, if_neg (by omega)]; exact Mw.i18 _ _)
      exact ⟨M', e9, fW.tr f9, Or.inl ⟨rfl, i9⟩⟩
end
