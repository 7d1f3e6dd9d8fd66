set_option maxRecDepth 100000
/-! JOURNEYS: the reference does an act -/
section
variable {C : SV} {A : Nat → Int32} {M M1 : PM} {k : Nat} {d : DJ}
theorem g33 (v : Int32) : Fq jyc M (M.si 72 33 v) := Fq.si (c := jyc) Fq.rf (Or.inr ⟨rfl, rfl⟩)
theorem ms_sayJ (h : CY 83 C M) (hv : RvY 73 A M) (ok : OKA C A) {t w : Nat} (ht : t < C.nt) (hw : w < C.nw) :
    (tol C w (A t) (A 12) ≤ A (4 + t) → ∃ M6 M7 v, m_refusesSay 73 (zn t) (zn w) M = some (0, M6) ∧ m_goSay 73 (zn t) (zn w) M6 = some (v, M7) ∧ Fq jyc M (M7.si 72 33 ((M6.i 72 33) + v)) ∧ RvY 73 (sayA C A t w (ix (A t))) (M7.si 72 33 ((M6.i 72 33) + v)) ∧ (M7.si 72 33 ((M6.i 72 33) + v)).i 72 33 = M.i 72 33 + tol C w (A t) (A 12)) ∧
    (¬ tol C w (A t) (A 12) ≤ A (4 + t) → ∃ M6, m_refusesSay 73 (zn t) (zn w) M = some (-2, M6) ∧ Fq jyc M M6 ∧ RvY 73 A M6 ∧ M6.i 72 33 = M.i 72 33) := by
  obtain ⟨s, hs, hA⟩ := ok.1 t ht
  have b2 := h.ok.ns6
  obtain ⟨M6, e6, f6⟩ := ms_refusesSay h (Or.inl rfl) hv ht hw
  have es : ix (A t) = s := by rw [hA, ix_zn (by omega)]
  have v6 : RvY 73 A M6 := hv.fa f6
  have i6 : M6.i 72 33 = M.i 72 33 := f6.i _ _ (by unfold ca; omega)
  refine ⟨fun g => ?_, fun g => ?_⟩
  · rw [if_pos g] at e6
    obtain ⟨M7, e7, f7, v7, -⟩ := ms_goSay (h.fa f6) (Or.inl rfl) v6 ht hw hA hs
    have f8 : Fq (fun o j => o = 72 ∧ j = 33) M7 (M7.si 72 33 ((M6.i 72 33) + tol C w (A t) (A 12))) := Fq.si (c := fun o j => o = 72 ∧ j = 33) Fq.rf ⟨rfl, rfl⟩
    refine ⟨M6, M7, _, e6, e7, ((f6.mo (d := jyc) (fun o j q => Or.inl (Or.inl q))).tr (f7.mo (d := jyc) (fun o j q => Or.inl q))).tr (f8.mo (d := jyc) (fun o j q => Or.inr q)), ?_, ?_⟩
    · rw [es]
      exact v7.fr f8 (fun j => by omega)
    · rw [si_i, if_pos ⟨rfl, rfl⟩, i6]
  · rw [if_neg g] at e6
    exact ⟨M6, e6, f6.mo (d := jyc) (fun o j q => Or.inl (Or.inl q)), v6, i6⟩
theorem ms_act (h : CY 83 C M) (hv : RvY 73 A M) (ok : OKA C A) (hd : okJ d) {p3 : Int32} (h3 : isd d.1 = true → p3 = zn (d.1 - 48)) :
    (∀ A' t, actJ C A d = some (A', t) → ∃ M', m_act (if isd d.1 = true then 115 else zn d.1) (zn d.2) p3 M = some (1, M') ∧ Fq jyc M M' ∧ RvY 73 A' M' ∧ M'.i 72 33 = M.i 72 33 + t) ∧
    (actJ C A d = none → ∃ M', m_act (if isd d.1 = true then 115 else zn d.1) (zn d.2) p3 M = some (0, M') ∧ Fq jyc M M' ∧ RvY 73 A M' ∧ M'.i 72 33 = M.i 72 33) := by
  obtain ⟨c, v⟩ := d
  have b1 := h.ok.nt4
  have b2 := h.ok.ns6
  have b3 := h.ok.nw10
  have h3' : isd c = true → p3 = zn (c - 48) := h3
  have hun : ∀ p1 : Int32, m_act p1 (zn v) p3 M = if p1 = 119 then (some (1, M.si 73 12 ((M.i 73 12) + zn v))) else (bd (m_isOne (zn v) M) fun v1 M1 => if v1 = 0 then (some (0, M1)) else (if p1 = 62 then (bd (m_refusesWalk 73 (zn v) (if p1 = 62 then 1 else 0) M1) fun v3 M3 => if 0 ≤ v3 then (bd (m_goWalk 73 (zn v) (if p1 = 62 then 1 else 0) M3) fun v4 M4 => some (1, M4)) else (some (0, M3))) else (if p1 = 60 then (bd (m_refusesWalk 73 (zn v) (if p1 = 62 then 1 else 0) M1) fun v3 M3 => if 0 ≤ v3 then (bd (m_goWalk 73 (zn v) (if p1 = 62 then 1 else 0) M3) fun v4 M4 => some (1, M4)) else (some (0, M3))) else (if p1 = 115 then (if p3 < 0 then (some (0, M1)) else (bd (m_refusesSay 73 (zn v) p3 M1) fun v6 M6 => if 0 ≤ v6 then (bd (m_goSay 73 (zn v) p3 M6) fun v7 M7 => some (1, M7.si 72 33 ((M6.i 72 33) + v7))) else (some (0, M6)))) else (bd (m_wordFor (zn v) M1) fun v8 M9 => if v8 < 0 then (some (0, M9)) else (bd (m_refusesSay 73 (zn v) v8 M9) fun v6 M6 => if 0 ≤ v6 then (bd (m_goSay 73 (zn v) v8 M6) fun v7 M7 => some (1, M7.si 72 33 ((M6.i 72 33) + v7))) else (some (0, M6)))))))) := by
    intro p1
    unfold m_act
    simp only [jn_u, lt_u, ix12, ck12]
  rw [hun]
  unfold actJ
  simp only
  by_cases g1 : c = 119
  · subst g1
    rw [if_pos rfl, if_neg (show ¬ isd 119 = true by decide), if_pos (show zn 119 = 119 from rfl)]
    refine ⟨fun A' t e => ?_, fun e => by cases e⟩
    cases e
    have f : Fq (fun o j => o = 73 ∧ j = 12) M (M.si 73 12 ((M.i 73 12) + zn v)) := Fq.si (c := fun o j => o = 73 ∧ j = 12) Fq.rf ⟨rfl, rfl⟩
    refine ⟨_, rfl, f.mo (d := jyc) (fun o j q => Or.inl (Or.inr (Or.inl q.1))), fun j hj => ?_, ?_⟩
    · unfold hourA
      by_cases e : j = 12
      · rw [if_pos e, e, si_i, if_pos ⟨rfl, rfl⟩, hy12 hv]
      · rw [if_neg e, f.i _ _ (by omega)]; exact hv j hj
    · rw [f.i _ _ (by omega), Int32.add_zero]
  · have hj : isj c = true := by
      rcases hd with w | w
      · exact absurd w.1 g1
      · exact w.1
    have hv3 : v ≤ 3 := by
      rcases hd with w | w
      · exact absurd w.1 g1
      · exact w.2
    have hc := isj_lt hj
    rw [if_neg g1]
    have hnot : ¬ v < C.nt → ¬ (0 ≤ zn v ∧ zn v ≤ zn C.nt - 1) := fun w => by rw [inTr (by omega) (by omega)]; exact w
    have n119 : ¬ (if isd c = true then (115 : Int32) else zn c) = 119 := by
      by_cases q : isd c = true
      · rw [if_pos q]; decide
      · rw [if_neg q, zn_eq_l (by omega) (by omega)]; exact g1
    rw [if_neg n119]
    by_cases g2 : v < C.nt
    · rw [if_pos g2, bde (mt_one h g2), if_neg (show ¬ (1 : Int32) = 0 by decide)]
      by_cases gw : c = 60 ∨ c = 62
      · rw [if_pos gw]
        obtain ⟨s, hs, hA⟩ := ok.1 v g2
        have hy : wyJ c ≤ 1 := by unfold wyJ; split <;> omega
        have er := ms_refusesWalk h (Or.inl rfl) hv g2 hy hA
        have eg := ms_goWalk h (Or.inl rfl) hv g2 hy hA
        rw [hA]
        have hwk : ∀ X Y : Option (Int32 × PM), (if (if isd c = true then (115 : Int32) else zn c) = 62 then (bd (m_refusesWalk 73 (zn v) (if (if isd c = true then (115 : Int32) else zn c) = 62 then 1 else 0) M) fun v3 M3 => if 0 ≤ v3 then (bd (m_goWalk 73 (zn v) (if (if isd c = true then (115 : Int32) else zn c) = 62 then 1 else 0) M3) fun v4 M4 => some (1, M4)) else (some (0, M3))) else (if (if isd c = true then (115 : Int32) else zn c) = 60 then (bd (m_refusesWalk 73 (zn v) (if (if isd c = true then (115 : Int32) else zn c) = 62 then 1 else 0) M) fun v3 M3 => if 0 ≤ v3 then (bd (m_goWalk 73 (zn v) (if (if isd c = true then (115 : Int32) else zn c) = 62 then 1 else 0) M3) fun v4 M4 => some (1, M4)) else (some (0, M3))) else (if (if isd c = true then (115 : Int32) else zn c) = 115 then X else Y))) = bd (m_refusesWalk 73 (zn v) (zn (wyJ c)) M) fun v3 M3 => if 0 ≤ v3 then (bd (m_goWalk 73 (zn v) (zn (wyJ c)) M3) fun v4 M4 => some (1, M4)) else (some (0, M3)) := by
          intro X Y
          rcases gw with e | e
          · subst e; rfl
          · subst e; rfl
        rw [hwk]
        by_cases g4 : 0 ≤ zn s + (if wyJ c = 1 then 1 else -1) ∧ zn s + (if wyJ c = 1 then 1 else -1) ≤ zn C.ns - 1
        · rw [if_pos g4]
          rw [if_pos g4] at er
          refine ⟨fun A' t e => ?_, fun e => by cases e⟩
          cases e
          obtain ⟨M2, e2, f2, w2⟩ := eg
          refine ⟨M2, ?_, f2.mo (d := jyc) (fun o j q => Or.inl (Or.inr (Or.inl q))), w2, by rw [f2.i _ _ (by omega), Int32.add_zero]⟩
          rw [bde er, if_pos (by decide), bde e2]
        · rw [if_neg g4]
          rw [if_neg g4] at er
          refine ⟨fun A' t e => (by cases e), fun _ => ⟨M, ?_, Fq.rf, hv, rfl⟩⟩
          rw [bde er, if_neg (by decide)]
      · rw [if_neg gw]
        have g60 : ¬ c = 60 := fun w => gw (Or.inl w)
        have g62 : ¬ c = 62 := fun w => gw (Or.inr w)
        have n62 : ¬ (if isd c = true then (115 : Int32) else zn c) = 62 := by
          by_cases q : isd c = true
          · rw [if_pos q]; decide
          · rw [if_neg q, zn_eq_l (by omega) (by omega)]; exact g62
        have n60 : ¬ (if isd c = true then (115 : Int32) else zn c) = 60 := by
          by_cases q : isd c = true
          · rw [if_pos q]; decide
          · rw [if_neg q, zn_eq_l (by omega) (by omega)]; exact g60
        rw [if_neg n62, if_neg n60]
        by_cases g33 : c = 33
        · rw [if_neg (show ¬ (if isd c = true then (115 : Int32) else zn c) = 115 by subst g33; decide)]
          obtain ⟨M5, e5, f5⟩ := ms_wordFor h g2
          rw [hy12 hv, hy13 hv, hv v (by omega)] at e5
          have x5 := h.fa f5
          have v5 : RvY 73 A M5 := hv.fa f5
          have F5 : Fq jyc M M5 := f5.mo (d := jyc) (fun o j q => Or.inl (Or.inl q))
          have i33 : M5.i 72 33 = M.i 72 33 := f5.i _ _ (by unfold ca; omega)
          unfold wwJ
          simp only
          rw [if_pos g33, bde e5]
          rcases wdf_or h.ok (A 12) (A 13) (zn v) (A v) with e | ⟨w, hw, ew⟩
          · rw [if_pos e, e, if_pos (show (-1 : Int32) < 0 by decide)]
            exact ⟨fun A' t q => (by cases q), fun _ => ⟨M5, rfl, F5, v5, i33⟩⟩
          · rw [ew, if_neg (by rw [zn_eq_m (by omega)]; exact id), ix_zn (by omega), if_neg (Int32.not_lt.mpr (zn_nonneg (by omega)))]
            obtain ⟨s1, s2⟩ := ms_sayJ x5 v5 ok g2 hw
            unfold swJ
            simp only
            by_cases g4 : tol C w (A v) (A 12) ≤ A (4 + v)
            · rw [if_pos g4]
              obtain ⟨M6, M7, z, e6, e7, f7, w7, i7⟩ := s1 g4
              refine ⟨fun A' t q => ?_, fun q => by cases q⟩
              cases q
              refine ⟨_, ?_, F5.tr f7, w7, by rw [i7, i33]⟩
              rw [bde e6, if_pos (by decide), bde e7]
            · rw [if_neg g4]
              obtain ⟨M6, e6, f6, w6, i6⟩ := s2 g4
              refine ⟨fun A' t q => (by cases q), fun _ => ⟨M6, ?_, F5.tr f6, w6, by rw [i6, i33]⟩⟩
              rw [bde e6, if_neg (by decide)]
        · have hcd : 48 ≤ c ∧ c ≤ 57 := by
            simp only [isj, isd, Bool.or_eq_true, Bool.and_eq_true, decide_eq_true_eq] at hj
            omega
          have hdd : isd c = true := isd_iff.mpr hcd
          rw [if_pos (show (if isd c = true then (115 : Int32) else zn c) = 115 by rw [if_pos hdd]), h3' hdd, if_neg (show ¬ zn (c - 48) < 0 from Int32.not_lt.mpr (zn_nonneg (by omega)))]
          unfold wwJ
          simp only
          rw [if_neg g33]
          by_cases g5 : c - 48 < C.nw
          · rw [if_pos g5]
            obtain ⟨s1, s2⟩ := ms_sayJ h hv ok g2 g5
            unfold swJ
            simp only
            by_cases g4 : tol C (c - 48) (A v) (A 12) ≤ A (4 + v)
            · rw [if_pos g4]
              obtain ⟨M6, M7, z, e6, e7, f7, w7, i7⟩ := s1 g4
              refine ⟨fun A' t q => ?_, fun q => by cases q⟩
              cases q
              refine ⟨_, ?_, f7, w7, i7⟩
              rw [bde e6, if_pos (by decide), bde e7]
            · rw [if_neg g4]
              obtain ⟨M6, e6, f6, w6, i6⟩ := s2 g4
              refine ⟨fun A' t q => (by cases q), fun _ => ⟨M6, ?_, f6, w6, i6⟩⟩
              rw [bde e6, if_neg (by decide)]
          · rw [if_neg g5]
            refine ⟨fun A' t q => (by cases q), fun _ => ⟨M, ?_, Fq.rf, hv, rfl⟩⟩
            rw [bde (ms_refusesSayN h _ _ (Or.inr (by rw [inTr (by omega) (by omega)]; exact g5))), if_neg (by decide)]
    · rw [if_neg g2]
      refine ⟨fun A' t e => (by cases e), fun _ => ⟨M, ?_, Fq.rf, hv, rfl⟩⟩
      rw [bde (mn_one h (hnot g2)), if_pos rfl]
end
