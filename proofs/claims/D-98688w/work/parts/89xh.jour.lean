set_option maxRecDepth 100000
/-! JOURNEYS: the reference's call -/
def tailY (kk cnt : Nat) (M16 : PM) : Option (Int32 × PM) := lt (M16.si 72 12 0) fun M17 => if zn kk ≤ zn cnt then (bd (m_tell 0 M17) fun _ M19 => bd (m_tell (Int32.toInt64 (M19.i 72 33)) M19) fun _ M20 => some (zn cnt, M20)) else (bd (m_tell 1 M17) fun _ M19 => bd (m_tell (Int32.toInt64 (M19.i 72 33)) M19) fun _ M20 => some (zn cnt, M20))
theorem cjY_qt : ∀ o j, cjY o j → yqt o j := fun o j q => Or.inl (by
  rcases q with q | q
  · unfold ts; omega
  · unfold ts; omega)
theorem jyc_ym : ∀ o j, jyc o j → ymt o j := fun o j q => by
  rcases q with (q | q | q) | q
  · exact Or.inl (ca_yqt o j q)
  · exact Or.inr q
  · exact Or.inl (Or.inl (by unfold ts; omega))
  · exact Or.inl (Or.inl (by unfold ts; omega))
theorem rwy_qt : ∀ o j, rwy o j → yqt o j := fun o j q => q.elim (fun w => Or.inr (Or.inl ⟨w.1, Or.inl w.2⟩)) (fun w => Or.inr (Or.inr (Or.inl w)))
theorem Call.xyU {fx fm : PM → Option (Int32 × PM)} (h : ∀ C A nT bT nU U ch K l, OKC C → OKA C A → l.length ≤ 15 → (nT ≤ 80 ∧ ∀ k, bT k < 256) → nU ≤ 12 → ∃ v C' A' nT' bT' nU' U' K' l', l'.length ≤ 15 ∧
    (∀ M, XS C A nT bT nU U ch K l M → ∃ M1, fx M = some (v, M1) ∧ Ge gxc M M1 ∧ XS C' A' nT' bT' nU' U' ch K' l' M1 ∧ M1.n ≤ M.n + 500 ∧ M1.w ≤ M.w + 5000) ∧
    (∀ M, YS C A nT bT nU U ch K l M → ∃ M2, fm M = some (v, M2) ∧ Fq gyc M M2 ∧ YS C' A' nT' bT' nU' U' ch K' l' M2)) : Call fx fm := by
  rintro kb M ⟨C, A, nT, bT, nU, U, ch, K, l, hR⟩
  obtain ⟨v, C', A', nT', bT', nU', U', K', l', h15, hx, hy⟩ := h C A nT bT nU U ch K l hR.x.ok hR.ok hR.l15 hR.xs.t.1 hR.xs.u.1
  obtain ⟨M1, e1, f1, x1, n1, w1⟩ := hx M hR.xs
  obtain ⟨M2, e2, f2, y2⟩ := hy M1 (hR.ys.ge f1 x1.x.sh)
  refine ⟨v, M1, M2, e1, e2, ⟨C', A', nT', bT', nU', U', ch, K', l', RV.xy (x1.fr f2 y2.y.sh) y2 h15⟩, ?_, ?_⟩
  · rw [f2.1]; exact n1
  · rw [f2.2.1]; exact w1
section
variable {C : SV} {A : Nat → Int32} {M M1 : PM} {nT nU ch : Nat} {bT : Nat → Nat} {U : Nat → Nat → Int32} {K : Nat → Bool × (Nat → Int32) × Nat} {l : List Int64}
theorem ms_tailJ {cnt kk : Nat} {sp : Int32} (hc : cnt ≤ 1000) (hk : kk ≤ 1000) (h33 : M.i 72 33 = sp) : ∃ M1, tailY kk cnt M = some (zn cnt, M1) ∧ Fq rwy M M1 ∧ LY [if kk ≤ cnt then 0 else 1, sp.toInt64] M1 := by
  unfold tailY
  rw [lt_u]
  by_cases g : kk ≤ cnt
  · rw [if_pos (by rw [zn_le (by omega) (by omega)]; exact g), if_pos g]
    obtain ⟨M3, e3, f3, l3⟩ := ms_tell0 M 0
    obtain ⟨M4, e4, f4, l4⟩ := ms_tell1 l3 sp.toInt64
    refine ⟨M4, ?_, f3.tr f4, l4⟩
    rw [bde e3, show M3.i 72 33 = sp from (f3.i _ _ (by unfold rwy; omega)).trans h33, bde e4]
  · rw [if_neg (by rw [zn_le (by omega) (by omega)]; exact g), if_neg g]
    obtain ⟨M3, e3, f3, l3⟩ := ms_tell0 M 1
    obtain ⟨M4, e4, f4, l4⟩ := ms_tell1 l3 sp.toInt64
    refine ⟨M4, ?_, f3.tr f4, l4⟩
    rw [bde e3, show M3.i 72 33 = sp from (f3.i _ _ (by unfold rwy; omega)).trans h33, bde e4]
theorem ys_journey (h : YS C A nT bT nU U ch K l M) (hA : OKA C A) (hU : nU ≤ 12) :
    (∀ kk F, pJ bT nT = (nT, some (kk, F)) → ∃ M1, m_journey M = some (zn (jrJ C F kk 0 A 0).1, M1) ∧ Fq gyc M M1 ∧ YS C (jrJ C F kk 0 A 0).2.1 0 bT (pNJ (jrJ C F kk 0 A 0).1 nU) (pUJ (jrJ C F kk 0 A 0).1 nU U A) ch K (jlJ kk (jrJ C F kk 0 A 0)) M1) ∧
    ((¬ ∃ kk F, pJ bT nT = (nT, some (kk, F))) → ∃ M1, m_journey M = some (-1 - zn (pJ bT nT).1, M1) ∧ Fq gyc M M1 ∧ YS C A 0 bT nU U ch K l M1) := by
  have t1 := h.t.1.1
  have f0 : Fq (fun o j => o = 72 ∧ j = 13) M (M.si 72 13 0) := Fq.si (c := fun o j => o = 72 ∧ j = 13) Fq.rf ⟨rfl, rfl⟩
  have q0 : Fq yqt M (M.si 72 13 0) := f0.mo (d := yqt) (fun o j q => Or.inr (Or.inl ⟨q.1, Or.inr (Or.inl q.2)⟩))
  have s0 : YS C A nT bT nU U ch K l (M.si 72 13 0) := h.q q0 (h.t.fr f0 (by omega) (fun j => by omega)) (h.ly.fr f0 (by omega) (fun j => by omega))
  obtain ⟨M2, e1, f1, i17, i15, R2, T2⟩ := ms_beginText (m := 60) s0.t s0.y.sh (by omega)
  have e1' : m_beginText 60 (M.si 72 13 0) = _ := e1
  have s2 : YS C A 0 bT nU U ch K l M2 := s0.q (f1.mo bgy_qt) T2 (s0.ly.fr f1 (by unfold bgy; omega) (fun j => by unfold bgy; omega))
  obtain ⟨K4, hK4⟩ : ∃ K4 : Int32 → Int32 → PM → Option (Int32 × PM), K4 = (fun (v7 : Int32) (v12 : Int32) (M15 : PM) =>
    jn (fun (M16 : PM) =>
    lt (M16.si 72 12 0) fun M17 =>
    jn (fun (w1 : Int64) (M18 : PM) =>
    bd (m_tell w1 M18) fun _ M19 =>
    bd (m_tell (Int32.toInt64 (M19.i 72 33)) M19) fun _ M20 =>
    some (v12, M20)) fun j5 =>
    if v7 ≤ v12 then (j5 0 M17)
    else (j5 1 M17)) fun j4 =>
    if v12 ≤ 0 then (j4 M15)
    else (bd (m_remember 88 M15) fun _ M21 =>
    j4 M21)) := ⟨_, rfl⟩
  have k4 : ∀ kk cnt N, K4 (zn kk) (zn cnt) N = if zn cnt ≤ 0 then tailY kk cnt N else bd (m_remember 88 N) fun _ M21 => tailY kk cnt M21 := fun kk cnt N => by
    rw [hK4]
    unfold tailY
    simp only [jn_u]
  obtain ⟨Kd, hKd⟩ : ∃ Kd : Int32 → PM → Option (Int32 × PM), Kd = (fun (v7 : Int32) (M8 : PM) => bd (m_wasRight M8) fun v8 M9 => if v8 = 0 then (some (((-1) - (M9.i 72 18)), M9)) else (bd (m_lay 73 88 0 M9) fun _ M10 => lt (M10.si 72 33 0) fun M11 => m_journey_L90 v7 (K4 v7) FU 0 M11)) := ⟨_, rfl⟩
  have hun : m_journey M = m_journey_L26 Kd FU (zn 0) (if zn nT ≤ 0 then 0 else 1) M2 := by
    unfold m_journey
    rw [lt_u, bde e1', i15, lt_u, hKd, hK4]
    rfl
  have hL : ∀ n k v2 M, m_journey_L26 Kd (n + 1) (zn k) v2 M = if v2 = 0 then Kd (zn k) M else bd (m_fine M) fun v3 M5 => if v3 = 0 then Kd (zn k) M5 else bd (m_readAct (3 * zn k) M5) fun _ M6 => bd (m_passes 59 M6) fun v5 M7 => m_journey_L26 Kd n (zn (k + 1)) v5 M7 := fun n k v2 M => by
    rw [m_journey_L26]
    simp only [jn_u, lt_u, zn_addl k 1]
  have hq : ∃ M3 k', m_journey M = Kd (zn k') M3 ∧ Fq cjY M2 M3 ∧ (((pJ bT nT).2 = none ∧ M3.i 72 18 = zn (pJ bT nT).1) ∨ ∃ k2 F2, (pJ bT nT).2 = some (k2, F2) ∧ k' = k2 ∧ RC 78 bT (min nT 60) M3 ∧ M3.i 72 17 = zn (pJ bT nT).1 ∧ yiJ k2 F2 M3) := by
    rw [hun]
    unfold pJ
    by_cases g : nT = 0
    · rw [if_pos g]
      refine ⟨M2, 0, ?_, Fq.rf, Or.inr ⟨0, dfJ, rfl, rfl, R2, i17, fun i hi => absurd hi (Nat.not_lt_zero i)⟩⟩
      rw [g, if_pos (show zn 0 ≤ 0 by decide)]
      have := hL 29999 0 0 M2
      rw [if_pos rfl] at this
      exact this
    · rw [if_neg g]
      have nz : ¬ zn nT ≤ 0 := by
        have := zn_le (a := nT) (b := 0) (by omega) (by omega)
        rw [show zn 0 = (0 : Int32) from rfl] at this
        rw [this]; omega
      rw [if_neg nz]
      obtain ⟨M3, k', e3, f3, r3⟩ := goYJ (b := bT) (e := min nT 60) (by omega) (m_journey_L26 Kd) Kd hL 100 0 dfJ 0 FU M2 (by omega) (FU_lt (by omega)) (by omega) (by omega) R2 i17 (fun i hi => absurd hi (Nat.not_lt_zero i))
      exact ⟨M3, k', e3, f3, r3⟩
  obtain ⟨M3, k', e3, f3, r3⟩ := hq
  have g3 := pJ_le bT nT
  have T3 : TY 0 bT M3 := T2.fr f3 (by unfold cjY; omega) (fun j => by unfold cjY; omega)
  have L3 : LY l M3 := s2.ly.fr f3 (by unfold cjY; omega) (fun j => by unfold cjY; omega)
  have s3 : YS C A 0 bT nU U ch K l M3 := s2.q (f3.mo cjY_qt) T3 L3
  have f03 : Fq yqt M M3 := (q0.tr (f1.mo bgy_qt)).tr (f3.mo cjY_qt)
  have i15' : M3.i 72 15 = zn nT := (f3.i _ _ (by unfold cjY; omega)).trans i15
  have hok : ∀ q kk F, pJ bT nT = (q, some (kk, F)) → kk ≤ 20 ∧ ∀ i, i < kk → okJ (F i) := fun q kk F hG => pJ_ok hG
  generalize pJ bT nT = G at r3 g3 hok ⊢
  have bad : ∀ M4, m_wasRight M3 = some (0, M4) → M4.i 72 18 = zn G.1 → Fq (fun o j => o = 72 ∧ (j = 17 ∨ j = 18)) M3 M4 → ∃ M1, m_journey M = some (-1 - zn G.1, M1) ∧ Fq gyc M M1 ∧ YS C A 0 bT nU U ch K l M1 := by
    intro M4 ew i18 f4
    have f4q : Fq yqt M3 M4 := f4.mo (d := yqt) (fun o j q => Or.inl (by rw [q.1]; unfold ts; omega))
    refine ⟨M4, ?_, (f03.tr f4q).gy, s3.q f4q (T3.fr f4 (by omega) (fun j => by omega)) (L3.fr f4 (by omega) (fun j => by omega))⟩
    rw [e3, hKd]
    simp only
    rw [bde ew, if_pos rfl, i18]
  refine ⟨fun kk F hG => ?_, fun hG => ?_⟩
  · subst hG
    obtain ⟨b20, okF⟩ := hok _ _ _ rfl
    rcases r3 with ⟨r3, -⟩ | ⟨k2, F2, r3, hk', R3, j17, I3⟩
    · cases r3
    · cases r3
      subst hk'
      obtain ⟨M4, e4, f4, v4⟩ := ms_lay (M := M3) (a := 73) (b := 88) (na := 44) (nb := 44) (d := 0) (kd73 s3.y.sh) (kd88 s3.y.sh) (by omega) (by omega) (by omega) (by omega)
      have e4' : m_lay 73 88 0 M3 = _ := e4
      have v88 : RvY 88 A M4 := fun j hj => by
        have := v4 j hj
        rw [Nat.zero_add] at this
        rw [this]; exact s3.b j hj
      obtain ⟨M5, hM5⟩ : ∃ M5, M5 = M4.si 72 33 0 := ⟨_, rfl⟩
      have f5 : Fq (fun o j => o = 72 ∧ j = 33) M4 M5 := by rw [hM5]; exact Fq.si (c := fun o j => o = 72 ∧ j = 33) Fq.rf ⟨rfl, rfl⟩
      have f45k : Fq (fun o j => o = 88 ∨ (o = 72 ∧ j = 33)) M3 M5 := (f4.mo (fun o j q => Or.inl q.1)).tr (f5.mo (fun o j q => Or.inr q))
      have f45 : Fq yqt M3 M5 := f45k.mo (d := yqt) (fun o j q => Or.inl (by
        rcases q with q | q
        · unfold ts; omega
        · unfold ts; omega))
      have s5 : YS C A 0 bT nU U ch K l M5 := s3.q f45 (T3.fr f45k (by omega) (fun j => by omega)) (L3.fr f45k (by omega) (fun j => by omega))
      have I5 : yiJ k' F M5 := fun j hj => by
        obtain ⟨w1, w2, w3, w4⟩ := I3 j hj
        exact ⟨w1, (f45k.i _ _ (by omega)).trans w2, (f45k.i _ _ (by omega)).trans w3, fun w => (f45k.i _ _ (by omega)).trans (w4 w)⟩
      obtain ⟨M6, e6, f6, v6, i6⟩ := ms_loopJ (F := F) (kk := k') (by omega) (K4 (zn k')) k' 0 A 0 FU M5 (by omega) (FU_lt (by omega)) s5.y s5.b hA I5 (by rw [hM5, si_i, if_pos ⟨rfl, rfl⟩])
      obtain ⟨ok6, c6⟩ := jrJ_ok (C := C) (F := F) s5.y.ok k' 0 A 0 hA
      have v88' : RvY 88 A M6 := (v88.fr f5 (fun j => by omega)).fr f6 (fun j => by unfold jyc syc ca; omega)
      generalize jrJ C F k' 0 A 0 = R at e6 v6 i6 ok6 c6 ⊢
      have s6 : YS C R.2.1 0 bT nU U ch K l M6 := s5.m (f6.mo jyc_ym) v6 (s5.t.fr f6 (by unfold jyc syc ca; omega) (fun j => by unfold jyc syc ca; omega)) (s5.ly.fr f6 (by unfold jyc syc ca; omega) (fun j => by unfold jyc syc ca; omega))
      have ff6 : Fq ymt M M6 := ((f03.tr f45).mo (fun o j q => Or.inl q)).tr (f6.mo jyc_ym)
      have hrun : m_journey M = K4 (zn k') (zn R.1) M6 := by
        rw [e3, hKd]
        simp only
        rw [bde (wr_ok R3 j17 i15' (Nat.le_refl _) (by omega)), if_neg (by decide), bde e4', lt_u, ← hM5]
        exact e6
      unfold pNJ pUJ jlJ
      by_cases c0 : R.1 = 0
      · rw [if_pos c0, if_pos c0]
        obtain ⟨M7, e7, f7, l7⟩ := ms_tailJ (cnt := R.1) (kk := k') (by omega) (by omega) i6
        refine ⟨M7, ?_, (ff6.gym).tr ((f7.mo rwy_qt).gy), s6.q (f7.mo rwy_qt) (s6.t.fr f7 (by unfold rwy; omega) (fun j => by unfold rwy; omega)) l7⟩
        rw [hrun, k4, if_pos (by rw [c0]; decide)]; exact e7
      · rw [if_neg c0, if_neg c0]
        obtain ⟨M7, e7, f7, v7⟩ := ms_remember s6.y.sh hU s6.u (Or.inr rfl) v88'
        have s7 : YS C R.2.1 0 bT (psN nU) (psU nU U A) ch K l M7 := ⟨⟨s6.y.rc f7, by rw [f7.r _ _ (by unfold rcl; omega)]; exact s6.1.2⟩, s6.b.fr f7 (fun j => by unfold rcl; omega), s6.t.fr f7 (by unfold rcl; omega) (fun j => by unfold rcl; omega), v7, s6.kk.fr f7 (fun o j q1 q2 => by unfold rcl; omega) (by unfold rcl; omega), s6.ly.fr f7 (by unfold rcl; omega) (fun j => by unfold rcl; omega)⟩
        obtain ⟨M8, e8, f8, l8⟩ := ms_tailJ (M := M7) (cnt := R.1) (kk := k') (sp := R.2.2) (by omega) (by omega) ((f7.i _ _ (by unfold rcl; omega)).trans i6)
        refine ⟨M8, ?_, ((ff6.gym).tr (f7.mo (d := gyc) (fun o j q => Or.inl (by unfold rcl at q; omega)))).tr ((f8.mo rwy_qt).gy), s7.q (f8.mo rwy_qt) (s7.t.fr f8 (by unfold rwy; omega) (fun j => by unfold rwy; omega)) l8⟩
        have nz : ¬ zn R.1 ≤ 0 := by
          have := zn_le (a := R.1) (b := 0) (by omega) (by omega)
          rw [show zn 0 = (0 : Int32) from rfl] at this
          rw [this]; omega
        rw [hrun, k4, if_neg nz, bde e7, e8]
  · rcases r3 with ⟨r3, r4⟩ | ⟨k2, F2, r3, hk', R3, j17, I3⟩
    · exact bad M3 (wr_f (by omega) r4) r4 Fq.rf
    · have hne : ¬ G.1 = nT := fun w => hG ⟨k2, F2, by rw [← w, ← r3]⟩
      exact bad (Mw M3 G.1) (wr_at R3 j17 i15' (by omega) (by omega)) (Mw.i18 _ _) (Mw.fq _ _)
theorem call_journey : Call x_journey m_journey := by
  refine Call.xyU (fun C A nT bT nU U ch K l hC hA h15 ht hU => ?_)
  by_cases g : ∃ kk F, pJ bT nT = (nT, some (kk, F))
  · obtain ⟨kk, F, hG⟩ := g
    exact ⟨_, C, _, 0, bT, _, _, K, _, by unfold jlJ; exact two15 _ _, fun M h => (xs_journey h).1 kk F hG, fun M h => (ys_journey h hA hU).1 kk F hG⟩
  · exact ⟨_, C, A, 0, bT, nU, U, K, l, h15, fun M h => (xs_journey h).2 g, fun M h => (ys_journey h hA hU).2 g⟩
end
