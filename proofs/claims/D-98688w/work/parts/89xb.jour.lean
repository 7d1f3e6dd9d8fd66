set_option maxRecDepth 100000
/-! JOURNEYS: the reference reads an act -/
def tjA (k : Nat) (v3 : Int32) (M6 : PM) : Option (Unit × PM) := lt (M6.si 72 17 ((M6.i 72 17) + 1)) fun M7 => bd (m_in v3 48 57 M7) fun v5 M8 => lt (if v5 = 0 then v3 else 115 : Int32) fun v6 => ck (3 * zn k) 240 <| lt (M8.si 89 (ix (3 * zn k)) v6) fun M9 => ck ((3 * zn k) + 2) 240 <| lt (M9.si 89 (ix ((3 * zn k) + 2)) (v3 - 48)) fun M10 => some ((), M10)
theorem rdJ_u (k : Nat) (M : PM) : m_readAct (3 * zn k) M = bd (m_passes 119 M) fun v1 M1 => if v1 = 0 then (bd (m_oneOf 97 4 M1) fun v2 M2 => ck ((3 * zn k) + 1) 240 <| lt (M2.si 89 (ix ((3 * zn k) + 1)) v2) fun M3 => bd (m_here M3) fun v3 M4 => bd (m_fine M4) fun v4 M5 => if v4 = 0 then tjA k v3 M5 else (if v3 = 62 then tjA k v3 M5 else (if v3 = 60 then tjA k v3 M5 else (if v3 = 33 then tjA k v3 M5 else (bd (m_in v3 48 57 M5) fun v7 M11 => if v7 = 0 then (bd (m_fault (M11.i 72 17) M11) fun _ M12 => tjA k v3 M12) else tjA k v3 M11))))) else (ck (3 * zn k) 240 <| lt (M1.si 89 (ix (3 * zn k)) 119) fun M13 => bd (m_number 2 M13) fun v8 M14 => ck ((3 * zn k) + 1) 240 <| lt (M14.si 89 (ix ((3 * zn k) + 1)) v8) fun M15 => some ((), M15)) := by
  unfold m_readAct tjA
  simp only [jn_u]
section
variable {M M1 N : PM} {b : Nat → Nat} {e p k : Nat} {F : Nat → DJ}
theorem tjA_v (hk : k < 60) (v3 : Int32) (M : PM) : tjA k v3 M = some ((), ((M.si 72 17 ((M.i 72 17) + 1)).si 89 (3 * k) (if 48 ≤ v3 ∧ v3 ≤ 57 then 115 else v3)).si 89 (3 * k + 2) (v3 - 48)) := by
  have e3k : (3 : Int32) * zn k = zn (3 * k) := zn_mull k 3
  unfold tjA
  simp only [e3k, zn_addl]
  rw [lt_u, m_in32, bd_s]
  by_cases g : 48 ≤ v3 ∧ v3 ≤ 57
  · rw [if_pos g, if_pos g, if_neg (by decide), lt_u, ck_zn (by omega) (by omega), ix_zn (by omega), lt_u, ck_zn (by omega) (by omega), ix_zn (by omega), lt_u]
  · rw [if_neg g, if_neg g, if_pos rfl, lt_u, ck_zn (by omega) (by omega), ix_zn (by omega), lt_u, ck_zn (by omega) (by omega), ix_zn (by omega), lt_u]
theorem tjA_f (hk : k < 60) (v3 : Int32) (h : M.i 72 18 = zn p) : ∃ M', tjA k v3 M = some ((), M') ∧ Fq cjY M M' ∧ M'.i 72 18 = zn p := by
  refine ⟨_, tjA_v hk v3 M, Fq.si (c := cjY) (Fq.si (c := cjY) (Fq.si (c := cjY) Fq.rf (Or.inr ⟨rfl, Or.inl rfl⟩)) (Or.inl rfl)) (Or.inl rfl), ?_⟩
  rw [si_i, if_neg (by omega), si_i, if_neg (by omega), si_i, if_neg (by omega)]
  exact h
theorem hr_any (h : RC 78 b e M) (hp : p ≤ 1000) (f : Fq cjY M N) (N17 : N.i 72 17 = zn p) : m_here N = some (hv b e p, N) := by
  obtain ⟨⟨z, k1, k2, k3⟩, a1, r1, ⟨L, T, l1, l2, l3, l4, l5⟩, t1, t2, w1⟩ := h
  have n15 : N.i 72 15 = zn L := by rw [f.i _ _ (by unfold cjY; omega)]; exact l1
  have n16 : N.i 72 16 = zn T := by rw [f.i _ _ (by unfold cjY; omega)]; exact l2
  have n14 : N.r 72 14 = some 78 := by rw [f.r _ _ (by unfold cjY; omega)]; exact r1
  have nk : N.k 78 = (21, z) := by rw [f.k]; exact k1
  unfold m_here hv
  rw [n15, N17, n16]
  by_cases g : p < e
  · rw [if_neg (by rw [zn_le (by omega) (by omega)]; omega), if_neg (by rw [zn_le (by omega) (by omega)]; omega), lt_u, n14, rf_s, cka_k nk (by omega) (by omega), ix_zn (by omega), f.i _ _ (by unfold cjY; omega), t1 p g, b8_and (b p) (t2 p), if_pos g]
  · rw [if_neg g]
    by_cases g1 : L ≤ p
    · rw [if_pos (by rw [zn_le (by omega) (by omega)]; exact g1)]
    · rw [if_neg (by rw [zn_le (by omega) (by omega)]; exact g1), if_pos (by rw [zn_le (by omega) (by omega)]; omega)]
theorem hv_isj (hb : b p < 256) : (p < e ∧ isj (b p) = true) → (hv b e p = 62 ∨ hv b e p = 60 ∨ hv b e p = 33 ∨ (48 ≤ hv b e p ∧ hv b e p ≤ 57)) ∧ (if 48 ≤ hv b e p ∧ hv b e p ≤ 57 then (115 : Int32) else hv b e p) = (if isd (b p) = true then 115 else zn (b p)) ∧ (isd (b p) = true → hv b e p - 48 = zn (b p - 48)) := by
  intro g
  unfold hv
  rw [if_pos g.1]
  have h : ∀ c, c < 256 → isj c = true → ((zn c = 62 ∨ zn c = 60 ∨ zn c = 33 ∨ (48 ≤ zn c ∧ zn c ≤ 57)) ∧ (if 48 ≤ zn c ∧ zn c ≤ 57 then (115 : Int32) else zn c) = (if isd c = true then 115 else zn c) ∧ (isd c = true → zn c - 48 = zn (c - 48))) := by decide +kernel
  exact h _ hb g.2
theorem hv_nj (hb : b p < 256) : ¬ (p < e ∧ isj (b p) = true) → ¬ hv b e p = 62 ∧ ¬ hv b e p = 60 ∧ ¬ hv b e p = 33 ∧ ¬ (48 ≤ hv b e p ∧ hv b e p ≤ 57) := by
  intro g
  unfold hv
  by_cases g1 : p < e
  · rw [if_pos g1]
    have h : ∀ c, c < 256 → isj c = false → (¬ zn c = 62 ∧ ¬ zn c = 60 ∧ ¬ zn c = 33 ∧ ¬ (48 ≤ zn c ∧ zn c ≤ 57)) := by decide +kernel
    refine h _ hb ?_
    cases q : isj (b p) with
    | false => rfl
    | true => exact absurd ⟨g1, q⟩ g
  · rw [if_neg g1]; decide
theorem ps_one4 (h : RC 78 b e M) (h17 : M.i 72 17 = zn p) (hp : p ≤ 1000) : m_oneOf 97 4 M = if p < e ∧ 97 ≤ b p ∧ b p < 101 then some (zn (b p - 97), Ma M (p + 1)) else some (0, Mw M p) := ps_oneOf h h17 hp (f := 97) (d := 4) (by omega) (by omega)
theorem ms_readsJ (he : e ≤ 80) (hk : k < 60) (hp : p ≤ e) (hR : RC 78 b e M) (h17 : M.i 72 17 = zn p) (hI : yiJ k F M) : ∃ M', m_readAct (3 * zn k) M = some ((), M') ∧ Fq cjY M M' ∧ (((lnJ b e p).2 = none ∧ M'.i 72 18 = zn (lnJ b e p).1) ∨ ∃ d, (lnJ b e p).2 = some d ∧ RC 78 b e M' ∧ M'.i 72 17 = zn (lnJ b e p).1 ∧ yiJ (k + 1) (exF F k d) M') := by
  have hb8 := hR.2.2.2.2.2.1
  have e3k : (3 : Int32) * zn k = zn (3 * k) := zn_mull k 3
  have he119 : m_passes 119 M = _ := ps_passes (d := 119) hR h17 (show p ≤ 1000 by omega) (by omega)
  have ext : ∀ (d : DJ) (M' : PM), okJ d → M'.i 89 (3 * k) = (if isd d.1 = true then 115 else zn d.1) → M'.i 89 (3 * k + 1) = zn d.2 → (isd d.1 = true → M'.i 89 (3 * k + 2) = zn (d.1 - 48)) → (∀ j, j < 3 * k → M'.i 89 j = M.i 89 j) → yiJ (k + 1) (exF F k d) M' := by
    intro d M' h1 h2 h3 h4 h5 i hi
    unfold exF
    by_cases ei : i = k
    · rw [if_pos ei, ei]; exact ⟨h1, h2, h3, h4⟩
    · rw [if_neg ei]
      obtain ⟨w1, w2, w3, w4⟩ := hI i (by omega)
      exact ⟨w1, (h5 _ (by omega)).trans w2, (h5 _ (by omega)).trans w3, fun q => (h5 _ (by omega)).trans (w4 q)⟩
  have hok : ∀ q d, lnJ b e p = (q, some d) → okJ d := fun q d w => (lnJ_ok w).2
  revert hok
  rw [rdJ_u]
  unfold lnJ
  by_cases g1 : p < e ∧ b p = 119
  · rw [if_pos g1] at he119 ⊢
    simp only [e3k, zn_addl]
    rw [bde he119, if_neg (show ¬ (1 : Int32) = 0 by decide), ck_zn (by omega) (by omega), ix_zn (by omega), lt_u]
    obtain ⟨N, hN⟩ : ∃ N, N = (Ma M (p + 1)).si 89 (3 * k) 119 := ⟨_, rfl⟩
    have fN : Fq (fun o j => (o = 89 ∧ j = 3 * k) ∨ (o = 72 ∧ j = 17)) M N := by
      rw [hN]; exact Fq.si (c := fun o j => (o = 89 ∧ j = 3 * k) ∨ (o = 72 ∧ j = 17)) ((Ma.fq M _).mo (fun o j w => Or.inr w)) (Or.inl ⟨rfl, rfl⟩)
    have RN : RC 78 b e N := hR.fr fN (fun j w => by omega) (fun j => by omega)
    have N17 : N.i 72 17 = zn (p + 1) := by rw [hN, si_i, if_neg (by omega)]; exact Ma.i17 M _
    have FN : Fq cjY M N := fN.mo (d := cjY) (fun o j w => w.elim (fun w => Or.inl w.1) (fun w => Or.inr ⟨w.1, Or.inl w.2⟩))
    rw [← hN]
    have hnum : m_number 2 N = _ := ps_number (d := 1) RN N17 (show p + 1 + 1 < 1000 by omega) (by omega)
    by_cases g2 : p + 1 < e ∧ isd (b (p + 1)) = true
    · rw [if_pos g2] at hnum ⊢
      rw [show 1 + 1 = 2 from rfl] at hnum
      intro hok
      have hok' := hok _ _ rfl
      generalize num b e 2 (p + 1) 0 = r at hnum hok' ⊢
      rw [bde hnum, ck_zn (by omega) (by omega), ix_zn (by omega), lt_u]
      obtain ⟨M6, hM6⟩ : ∃ M6, M6 = (Ma N r.1).si 89 (3 * k + 1) (zn r.2) := ⟨_, rfl⟩
      have f6 : Fq (fun o j => (o = 89 ∧ j = 3 * k + 1) ∨ (o = 72 ∧ j = 17)) N M6 := by
        rw [hM6]; exact Fq.si (c := fun o j => (o = 89 ∧ j = 3 * k + 1) ∨ (o = 72 ∧ j = 17)) ((Ma.fq N _).mo (fun o j w => Or.inr w)) (Or.inl ⟨rfl, rfl⟩)
      rw [← hM6]
      refine ⟨M6, rfl, FN.tr (f6.mo (d := cjY) (fun o j w => w.elim (fun w => Or.inl w.1) (fun w => Or.inr ⟨w.1, Or.inl w.2⟩))), Or.inr ⟨_, rfl, RN.fr f6 (fun j w => by omega) (fun j => by omega), ?_, ext _ M6 hok' ?_ ?_ (fun w => ?_) (fun j hj => ?_)⟩⟩
      · rw [hM6, si_i, if_neg (by omega)]; exact Ma.i17 _ _
      · rw [f6.i _ _ (by omega), hN, si_i, if_pos ⟨rfl, rfl⟩, if_neg (show ¬ isd 119 = true by decide)]; rfl
      · rw [hM6, si_i, if_pos ⟨rfl, rfl⟩]
      · exact absurd w (show ¬ isd 119 = true by decide)
      · rw [f6.i _ _ (by omega), fN.i _ _ (by omega)]
    · rw [if_neg g2] at hnum ⊢
      intro hok
      rw [bde hnum, ck_zn (by omega) (by omega), ix_zn (by omega), lt_u]
      refine ⟨_, rfl, FN.tr (Fq.si (c := cjY) ((Mw.fq N (p + 1)).mo (fun o j w => Or.inr w)) (Or.inl rfl)), Or.inl ⟨rfl, ?_⟩⟩
      rw [si_i, if_neg (by omega)]; exact Mw.i18 _ _
  · rw [if_neg g1] at he119 ⊢
    simp only [e3k, zn_addl]
    rw [bde he119, if_pos rfl]
    have ho := ps_one4 hR h17 (show p ≤ 1000 by omega)
    by_cases g2 : p < e ∧ 97 ≤ b p ∧ b p < 101
    · rw [if_pos g2] at ho ⊢
      rw [bde ho, ck_zn (by omega) (by omega), ix_zn (by omega), lt_u]
      obtain ⟨N, hN⟩ : ∃ N, N = (Ma M (p + 1)).si 89 (3 * k + 1) (zn (b p - 97)) := ⟨_, rfl⟩
      have fN : Fq (fun o j => (o = 89 ∧ j = 3 * k + 1) ∨ (o = 72 ∧ j = 17)) M N := by
        rw [hN]; exact Fq.si (c := fun o j => (o = 89 ∧ j = 3 * k + 1) ∨ (o = 72 ∧ j = 17)) ((Ma.fq M _).mo (fun o j w => Or.inr w)) (Or.inl ⟨rfl, rfl⟩)
      have RN : RC 78 b e N := hR.fr fN (fun j w => by omega) (fun j => by omega)
      have N17 : N.i 72 17 = zn (p + 1) := by rw [hN, si_i, if_neg (by omega)]; exact Ma.i17 M _
      have N89 : N.i 89 (3 * k + 1) = zn (b p - 97) := by rw [hN, si_i, if_pos ⟨rfl, rfl⟩]
      have FN : Fq cjY M N := fN.mo (d := cjY) (fun o j w => w.elim (fun w => Or.inl w.1) (fun w => Or.inr ⟨w.1, Or.inl w.2⟩))
      rw [← hN, bde (ps_here RN N17 (show p + 1 ≤ 1000 by omega)), bde (ps_fine RN), if_neg (show ¬ (1 : Int32) = 0 by decide)]
      by_cases g3 : p + 1 < e ∧ isj (b (p + 1)) = true
      · rw [if_pos g3]
        intro hok
        have hok' := hok _ _ rfl
        obtain ⟨c1, c2, c3⟩ := hv_isj (hb8 (p + 1)) g3
        have hj : (if hv b e (p + 1) = 62 then tjA k (hv b e (p + 1)) N else (if hv b e (p + 1) = 60 then tjA k (hv b e (p + 1)) N else (if hv b e (p + 1) = 33 then tjA k (hv b e (p + 1)) N else (bd (m_in (hv b e (p + 1)) 48 57 N) fun v7 M11 => if v7 = 0 then (bd (m_fault (M11.i 72 17) M11) fun _ M12 => tjA k (hv b e (p + 1)) M12) else tjA k (hv b e (p + 1)) M11)))) = tjA k (hv b e (p + 1)) N := by
          by_cases w1 : hv b e (p + 1) = 62
          · rw [if_pos w1]
          · rw [if_neg w1]
            by_cases w2 : hv b e (p + 1) = 60
            · rw [if_pos w2]
            · rw [if_neg w2]
              by_cases w3 : hv b e (p + 1) = 33
              · rw [if_pos w3]
              · have c5 : 48 ≤ hv b e (p + 1) ∧ hv b e (p + 1) ≤ 57 := c1.elim (fun c => absurd c w1) (fun c => c.elim (fun c => absurd c w2) (fun c => c.elim (fun c => absurd c w3) id))
                rw [if_neg w3, m_in32, if_pos c5, bd_s, if_neg (show ¬ (1 : Int32) = 0 by decide)]
        rw [hj, tjA_v hk, N17, zn_addl, c2]
        obtain ⟨M6, hM6⟩ : ∃ M6, M6 = ((N.si 72 17 (zn (p + 1 + 1))).si 89 (3 * k) (if isd (b (p + 1)) = true then 115 else zn (b (p + 1)))).si 89 (3 * k + 2) (hv b e (p + 1) - 48) := ⟨_, rfl⟩
        have f6 : Fq (fun o j => (o = 89 ∧ (j = 3 * k ∨ j = 3 * k + 2)) ∨ (o = 72 ∧ j = 17)) N M6 := by
          rw [hM6]; exact Fq.si (c := fun o j => (o = 89 ∧ (j = 3 * k ∨ j = 3 * k + 2)) ∨ (o = 72 ∧ j = 17)) (Fq.si (c := fun o j => (o = 89 ∧ (j = 3 * k ∨ j = 3 * k + 2)) ∨ (o = 72 ∧ j = 17)) (Fq.si (c := fun o j => (o = 89 ∧ (j = 3 * k ∨ j = 3 * k + 2)) ∨ (o = 72 ∧ j = 17)) Fq.rf (Or.inr ⟨rfl, rfl⟩)) (Or.inl ⟨rfl, Or.inl rfl⟩)) (Or.inl ⟨rfl, Or.inr rfl⟩)
        rw [← hM6]
        refine ⟨M6, rfl, FN.tr (f6.mo (d := cjY) (fun o j w => w.elim (fun w => Or.inl w.1) (fun w => Or.inr ⟨w.1, Or.inl w.2⟩))), Or.inr ⟨_, rfl, RN.fr f6 (fun j w => by omega) (fun j => by omega), ?_, ext _ M6 hok' ?_ ?_ (fun w => ?_) (fun j hj => ?_)⟩⟩
        · rw [hM6, si_i, if_neg (by omega), si_i, if_neg (by omega), si_i, if_pos ⟨rfl, rfl⟩]
        · rw [hM6, si_i, if_neg (by omega), si_i, if_pos ⟨rfl, rfl⟩]
        · rw [f6.i _ _ (by omega)]; exact N89
        · rw [hM6, si_i, if_pos ⟨rfl, rfl⟩]; exact c3 w
        · rw [f6.i _ _ (by omega), fN.i _ _ (by omega)]
      · rw [if_neg g3]
        intro hok
        obtain ⟨c1, c2, c3, c4⟩ := hv_nj (hb8 (p + 1)) g3
        obtain ⟨M', e9, f9, i9⟩ := tjA_f (p := p + 1) (M := Mw N (p + 1)) hk (hv b e (p + 1)) (Mw.i18 _ _)
        refine ⟨M', ?_, (FN.tr ((Mw.fq N (p + 1)).mo (fun o j w => Or.inr w))).tr f9, Or.inl ⟨rfl, i9⟩⟩
        rw [if_neg c1, if_neg c2, if_neg c3, m_in32, if_neg c4, bd_s, if_pos rfl, N17, bde (ps_fault RN N17), e9]
    · rw [if_neg g2] at ho ⊢
      intro hok
      rw [bde ho, ck_zn (by omega) (by omega), ix_zn (by omega), lt_u]
      obtain ⟨N, hN⟩ : ∃ N, N = (Mw M p).si 89 (3 * k + 1) 0 := ⟨_, rfl⟩
      have FN : Fq cjY M N := by rw [hN]; exact Fq.si (c := cjY) ((Mw.fq M p).mo (fun o j w => Or.inr w)) (Or.inl rfl)
      have N18 : N.i 72 18 = zn p := by rw [hN, si_i, if_neg (by omega)]; exact Mw.i18 _ _
      have N17 : N.i 72 17 = zn p := by rw [hN, si_i, if_neg (by omega), si_i, if_neg (by omega), si_i, if_pos ⟨rfl, rfl⟩]
      rw [← hN, bde (hr_any hR (show p ≤ 1000 by omega) FN N17), bde (pf_fine (show p < 1000 by omega) N18), if_pos rfl]
      obtain ⟨M', e9, f9, i9⟩ := tjA_f (p := p) hk (hv b e p) N18
      exact ⟨M', e9, FN.tr f9, Or.inl ⟨rfl, i9⟩⟩
end
