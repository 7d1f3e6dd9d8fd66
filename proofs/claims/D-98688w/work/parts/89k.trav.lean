set_option maxRecDepth 100000
def bodyT (k : Nat) (M : PM) : Option (Unit × PM) := if (M.i 72 6) + zn k = 4 then m_fault (M.i 72 17) M else bd (m_oneOf 48 (M.i 72 1) M) fun v6 M8 => ck (2 * zn k) 40 <| lt (M8.si 82 (ix (2 * zn k)) v6) fun M9 => bd (m_need 58 M9) fun _ M10 => bd (m_number 3 M10) fun v7 M11 => ck ((2 * zn k) + 1) 40 <| lt (M11.si 82 (ix ((2 * zn k) + 1)) v7) fun M12 => some ((), M12)
theorem mT_L (Kc : Int32 → PM → Option (Int32 × PM)) (n k : Nat) (v2 : Int32) (M : PM) : m_travellers_L24 Kc (n + 1) (zn k) v2 M = if v2 = 0 then Kc (zn k) M else bd (m_fine M) fun v3 M5 => if v3 = 0 then Kc (zn k) M5 else bd (bodyT k M5) fun _ M6 => bd (m_passes 59 M6) fun v5 M7 => m_travellers_L24 Kc n (zn (k + 1)) v5 M7 := by
  rw [m_travellers_L24]
  simp only [jn_u, lt_u]
  by_cases h : v2 = 0
  · rw [if_pos h, if_pos h]
  · rw [if_neg h, if_neg h]
    congr 1
    funext v3 M5
    by_cases h3 : v3 = 0
    · rw [if_pos h3, if_pos h3]
    · rw [if_neg h3, if_neg h3]
      unfold bodyT
      by_cases h4 : M5.i 72 6 + zn k = 4
      · rw [if_pos h4, if_pos h4, zn_addl k 1]
      · rw [if_neg h4, if_neg h4]
        simp only [bd_bd, bd_ck, lt_u, bd_s, zn_addl k 1]
section
variable {M M1 : PM} {b : Nat → Nat} {e p n0 k ns : Nat} {F : Nat → DT}
theorem ps_oneN (h : RC 78 b e M) (h17 : M.i 72 17 = zn p) (hp : p ≤ 1000) (h1 : 1 ≤ ns) (h6 : ns ≤ 6) : m_oneOf 48 (zn ns) M = if p < e ∧ 48 ≤ b p ∧ b p < 48 + ns then some (zn (b p - 48), Ma M (p + 1)) else some (0, Mw M p) := ps_oneOf h h17 hp (f := 48) (d := ns) (by omega) (by omega)
theorem ms_bodyT (he : e ≤ 80) (h1 : 1 ≤ ns) (h6 : ns ≤ 6) (hp : p ≤ e) (hR : RC 78 b e M) (h17 : M.i 72 17 = zn p) (hI : yiT ns n0 k F M) : ∃ M', bodyT k M = some ((), M') ∧ Fq cwY M M' ∧ (((lnT b e ns n0 k p).2 = none ∧ M'.i 72 18 = zn (lnT b e ns n0 k p).1) ∨ ∃ d, (lnT b e ns n0 k p).2 = some d ∧ ((RC 78 b e M' ∧ M'.i 72 17 = zn (lnT b e ns n0 k p).1 ∧ yiT ns n0 (k + 1) (exF F k d) M') ∨ (M'.i 72 18 = zn (lnT b e ns n0 k p).1 ∧ (lnT b e ns n0 k p).1 < e ∧ b (lnT b e ns n0 k p).1 ≠ 59))) := by
  obtain ⟨i0, is, i1, i2⟩ := hI
  unfold lnT bodyT
  by_cases g1 : n0 + k = 4
  · rw [if_pos g1]
    refine ⟨Mw M p, ?_, (Mw.fq M p).mo (fun o x w => Or.inr w), Or.inl ⟨rfl, Mw.i18 M p⟩⟩
    rw [i1, zn_add, if_pos (by rw [g1]; rfl), h17]
    exact ps_fault hR h17
  · rw [if_neg g1]
    have nb : ¬ M.i 72 6 + zn k = 4 := by rw [i1, zn_add, zn_eq_l (by omega) (by omega)]; exact g1
    have ho := ps_oneN hR h17 (show p ≤ 1000 by omega) h1 h6
    have e2k : (2 : Int32) * zn k = zn (2 * k) := zn_mull k 2
    rw [if_neg nb, is]
    simp only [e2k, zn_addl]
    by_cases g2 : p < e ∧ 48 ≤ b p ∧ b p < 48 + ns
    · rw [if_pos g2]
      rw [if_pos g2] at ho
      obtain ⟨N, hN⟩ : ∃ N, N = (Ma M (p + 1)).si 82 (2 * k) (zn (b p - 48)) := ⟨_, rfl⟩
      have fN2 : Fq (fun o x => o = 82 ∧ x = 2 * k) (Ma M (p + 1)) N := by rw [hN]; exact Fq.si (c := fun o x => o = 82 ∧ x = 2 * k) Fq.rf ⟨rfl, rfl⟩
      have fN : Fq (fun o x => (o = 82 ∧ x = 2 * k) ∨ (o = 72 ∧ x = 17)) M N := ((Ma.fq M (p + 1)).mo (fun o x w => Or.inr w)).tr (fN2.mo (fun o x w => Or.inl w))
      have RN : RC 78 b e N := (Ma.rc hR (p + 1)).fr fN2 (fun x w => by omega) (fun x => by omega)
      have N17 : N.i 72 17 = zn (p + 1) := (fN2.i _ _ (by omega)).trans (Ma.i17 M (p + 1))
      have hnd : m_need 58 N = _ := ps_need (d := 58) RN N17 (show p + 1 ≤ 1000 by omega) (by omega)
      have FN : Fq cwY M N := fN.mo (d := cwY) (fun o x w => by unfold cwY; omega)
      rw [bde ho, ck_zn (by omega) (by omega), ix_zn (by omega), lt_u, ← hN]
      by_cases g3 : p + 1 < e ∧ b (p + 1) = 58
      · rw [if_pos g3]
        rw [if_pos g3, show p + 1 + 1 = p + 2 from rfl] at hnd
        have hnum : m_number 3 (Ma N (p + 2)) = _ := ps_number (d := 2) (Ma.rc RN (p + 2)) (Ma.i17 N _) (show p + 2 + 2 < 1000 by omega) (by omega)
        rw [bde hnd]
        by_cases g4 : p + 2 < e ∧ isd (b (p + 2)) = true
        · rw [if_pos g4]
          rw [if_pos g4] at hnum
          obtain ⟨m1, m2, m3⟩ := num3 b e (p + 2) (by omega)
          rw [show 2 + 1 = 3 from rfl] at hnum
          rw [bde hnum, ck_zn (by omega) (by omega), ix_zn (by omega), lt_u]
          generalize num b e 3 (p + 2) 0 = r at hnum m1 m2 m3 ⊢
          obtain ⟨M6, hM6⟩ : ∃ M6, M6 = (Ma (Ma N (p + 2)) r.1).si 82 (2 * k + 1) (zn r.2) := ⟨_, rfl⟩
          have f5 : Fq (fun o x => o = 82 ∧ x = 2 * k + 1) (Ma (Ma N (p + 2)) r.1) M6 := by rw [hM6]; exact Fq.si (c := fun o x => o = 82 ∧ x = 2 * k + 1) Fq.rf ⟨rfl, rfl⟩
          have f6 : Fq (fun o x => (o = 82 ∧ x = 2 * k + 1) ∨ (o = 72 ∧ x = 17)) N M6 := (((Ma.fq N (p + 2)).tr (Ma.fq _ r.1)).mo (fun o x w => Or.inr w)).tr (f5.mo (fun o x w => Or.inl w))
          rw [← hM6]
          refine ⟨M6, rfl, FN.tr (f6.mo (d := cwY) (fun o x w => by unfold cwY; omega)), Or.inr ⟨_, rfl, Or.inl ⟨RN.fr f6 (fun x w => by omega) (fun x => by omega), ?_, by omega, ?_, ?_, fun i hi => ?_⟩⟩⟩
          · rw [f5.i _ _ (by omega)]; exact Ma.i17 _ _
          · rw [f6.i _ _ (by omega), fN.i _ _ (by omega)]; exact is
          · rw [f6.i _ _ (by omega), fN.i _ _ (by omega)]; exact i1
          · unfold exF
            by_cases ei : i = k
            · rw [if_pos ei, ei]
              refine ⟨⟨by show b p - 48 < ns; omega, m3⟩, ?_, ?_⟩
              · rw [f6.i _ _ (by omega), hN, si_i, if_pos ⟨rfl, rfl⟩]
              · rw [hM6, si_i, if_pos ⟨rfl, rfl⟩]
            · rw [if_neg ei]
              obtain ⟨w1, w2, w3⟩ := i2 i (by omega)
              refine ⟨w1, ?_, ?_⟩
              · rw [f6.i _ _ (by omega), fN.i _ _ (by omega)]; exact w2
              · rw [f6.i _ _ (by omega), fN.i _ _ (by omega)]; exact w3
        · rw [if_neg g4]
          rw [if_neg g4] at hnum
          have fW : Fq (fun o x => o = 82 ∨ (o = 72 ∧ (x = 17 ∨ x = 18))) N ((Mw (Ma N (p + 2)) (p + 2)).si 82 (2 * k + 1) 0) := Fq.si (c := fun o x => o = 82 ∨ (o = 72 ∧ (x = 17 ∨ x = 18))) (((Ma.fq N (p + 2)).mo (fun o x w => Or.inr ⟨w.1, Or.inl w.2⟩)).tr ((Mw.fq _ _).mo (fun o x w => Or.inr w))) (Or.inl rfl)
          rw [bde hnum, ck_zn (by omega) (by omega), ix_zn (by omega), lt_u]
          exact ⟨_, rfl, FN.tr (fW.mo (d := cwY) (fun o x w => by unfold cwY; omega)), Or.inl ⟨rfl, by rw [si_i, if_neg (by omega)]; exact Mw.i18 _ _⟩⟩
      · rw [if_neg g3]
        rw [if_neg g3] at hnd
        have hnum := pf_number (show p + 1 < 1000 by omega) (Mw.i18 N (p + 1)) 3
        have fW : Fq (fun o x => o = 82 ∨ (o = 72 ∧ (x = 17 ∨ x = 18))) N ((Mw N (p + 1)).si 82 (2 * k + 1) 0) := Fq.si (c := fun o x => o = 82 ∨ (o = 72 ∧ (x = 17 ∨ x = 18))) ((Mw.fq _ _).mo (fun o x w => Or.inr w)) (Or.inl rfl)
        rw [bde hnd, bde hnum, ck_zn (by omega) (by omega), ix_zn (by omega), lt_u]
        exact ⟨_, rfl, FN.tr (fW.mo (d := cwY) (fun o x w => by unfold cwY; omega)), Or.inl ⟨rfl, by rw [si_i, if_neg (by omega)]; exact Mw.i18 _ _⟩⟩
    · rw [if_neg g2]
      rw [if_neg g2] at ho
      have j5 : ((Mw M p).si 82 (2 * k) 0).i 72 18 = zn p := by rw [si_i, if_neg (by omega)]; exact Mw.i18 M p
      have hnd := pf_need (show p < 1000 by omega) j5 58
      have hnum := pf_number (show p < 1000 by omega) j5 3
      have fW : Fq (fun o x => o = 82 ∨ (o = 72 ∧ (x = 17 ∨ x = 18))) M (((Mw M p).si 82 (2 * k) 0).si 82 (2 * k + 1) 0) := Fq.si (c := fun o x => o = 82 ∨ (o = 72 ∧ (x = 17 ∨ x = 18))) (Fq.si (c := fun o x => o = 82 ∨ (o = 72 ∧ (x = 17 ∨ x = 18))) ((Mw.fq _ _).mo (fun o x w => Or.inr w)) (Or.inl rfl)) (Or.inl rfl)
      rw [bde ho, ck_zn (by omega) (by omega), ix_zn (by omega), lt_u, bde hnd, bde hnum, ck_zn (by omega) (by omega), ix_zn (by omega), lt_u]
      exact ⟨_, rfl, fW.mo (d := cwY) (fun o x w => by unfold cwY; omega), Or.inl ⟨rfl, by rw [si_i, if_neg (by omega)]; exact j5⟩⟩
end
