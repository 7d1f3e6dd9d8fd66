set_option maxRecDepth 100000
/-! LAW: the call -/
abbrev lwy (o j : Nat) : Prop := yqt o j ∨ (o = 72 ∧ (j = 22 ∨ j = 24))
theorem shR_lwy : ∀ q ∈ shR, ¬ lwy q.1 q.2.1 := by decide +kernel
theorem ca_xqt : ∀ o j, ca o j → xqt o j := fun o j q => Or.inl (ca_ts o j q)
theorem ca_yqt : ∀ o j, ca o j → yqt o j := fun o j q => Or.inl (ca_ts o j q)
section
variable {C : SV} {A : Nat → Int32} {M M1 : PM} {nT nU ch n s : Nat} {bT b : Nat → Nat} {U : Nat → Nat → Int32} {K : Nat → Bool × (Nat → Int32) × Nat} {l : List Int64}
abbrev lwl (C : SV) (A : Nat → Int32) (n : Nat) (b : Nat → Nat) (s : Nat) : List Int64 := [(lwS C (C.rul n b) (zn s) (A 12) C.nw).2.1.toInt64, (lwS C (C.rul n b) (zn s) (A 12) C.nw).2.2.toInt64]
theorem xs_law (h : XS C A nT bT nU U ch K l M) (g : okR nT bT) (hs : s < C.ns) : ∃ M1, x_law (zn s) M = some ((lwS C (C.rul nT bT) (zn s) (A 12) C.nw).1, M1) ∧ Ge gxc M M1 ∧ XS C A 0 bT nU U ch K (lwl C A nT bT s) M1 ∧ M1.n ≤ M.n + 500 ∧ M1.w ≤ M.w + 5000 := by
  obtain ⟨M1, e1, f1, ⟨b1, b2⟩, T1, R1⟩ := (xs_readsRule h.t h.x.sh).1 g
  have s1 := h.gr f1 T1
  obtain ⟨Kd, hKd⟩ : ∃ Kd : Int32 → Int32 → Int32 → PM → Option (Int32 × PM), Kd = (fun (v16 : Int32) (v17 : Int32) (v18 : Int32) (M8 : PM) => lt (M8.si 20 67 0) fun M9 => bd (x_tells (Int32.toInt64 v17) M9) fun _ M10 => bd (x_tells (Int32.toInt64 v18) M10) fun _ M11 => some (v16, M11)) := ⟨_, rfl⟩
  obtain ⟨M2, e2, f2⟩ := xs_lawL (C' := C.rul nT bT) s1.x s1.a rfl (s1.x.rul g h.t.1.2 R1) (zn s) Kd
  have hun : x_law (zn s) M = x_law_L39 (zn s) (M1.r 20 38) Kd FU 0 0 0 0 M1 := by
    unfold x_law
    rw [bde e1, bde (xt_stat s1.x hs), if_neg (by decide), if_pos (by decide), lt_u, hKd]
  have s2 : XS C A 0 bT nU U ch K l M2 := s1.q (f2.mo ca_xqt) (s1.t.fr f2 (by unfold ca; omega) (fun j => by unfold ca; omega)) (s1.lx.fr f2 (by unfold ca; omega) (fun j => by unfold ca; omega))
  obtain ⟨M3, e3, f3, l3⟩ := xs_tell0 M2 ((lwS C (C.rul nT bT) (zn s) (A 12) C.nw).2.1.toInt64)
  obtain ⟨M4, e4, f4, l4⟩ := xs_tell1 l3 ((lwS C (C.rul nT bT) (zn s) (A 12) C.nw).2.2.toInt64)
  have f34 : Fq xqt M2 M4 := (f3.tr f4).mo (d := xqt) (fun o j q => q.elim (fun w => Or.inr (Or.inl ⟨w.1, Or.inl w.2⟩)) (fun w => Or.inr (Or.inr (Or.inl w))))
  refine ⟨M4, ?_, (f1.mo bxr_gx).tr ((f2.mo ca_xqt).tr f34).gx, s2.q f34 ((s2.t.fr f3 (by unfold rwx; omega) (fun j => by unfold rwx; omega)).fr f4 (by unfold rwx; omega) (fun j => by unfold rwx; omega)) l4, ?_, ?_⟩
  · rw [hun, e2, hKd]
    simp only [lt_u]
    rw [bde e3, bde e4]
  · rw [((f2.mo ca_xqt).tr f34).1]; omega
  · rw [((f2.mo ca_xqt).tr f34).2.1]; omega
theorem ys_law (h : YS C A nT bT nU U ch K l M) (g : okR nT bT) (hs : s < C.ns) : ∃ M1, m_law (zn s) M = some ((lwS C (C.rul nT bT) (zn s) (A 12) C.nw).1, M1) ∧ Fq gyc M M1 ∧ YS C A 0 bT nU U ch K (lwl C A nT bT s) M1 := by
  have n40 := okR_40 g
  have f0 : Fq (fun o j => o = 72 ∧ j = 13) M (M.si 72 13 0) := Fq.si (c := fun o j => o = 72 ∧ j = 13) Fq.rf ⟨rfl, rfl⟩
  have s0 : YS C A nT bT nU U ch K l (M.si 72 13 0) := h.q (f0.mo (d := yqt) (fun o j q => Or.inr (Or.inl ⟨q.1, Or.inr (Or.inl q.2)⟩))) (h.t.fr f0 (by omega) (fun j => by omega)) (h.ly.fr f0 (by omega) (fun j => by omega))
  obtain ⟨M1, e1, f1, T1⟩ := (ms_readRule s0.t s0.y.sh).1 g
  have s1 : YS C A 0 bT nU U ch K l M1 := s0.q (f1.mo byr_qt) T1 (s0.ly.fr f1 (by unfold byr; omega) (fun j => by unfold byr; omega))
  obtain ⟨K3, hK3⟩ : ∃ K3 : Int32 → Int32 → Int32 → PM → Option (Int32 × PM), K3 = (fun (v22 : Int32) (v23 : Int32) (v24 : Int32) (M15 : PM) => lt (M15.sr 72 22 (some 83)) fun M16 => lt (M16.si 72 24 (zn C.rl)) fun M17 => lt (M17.si 72 12 0) fun M18 => bd (m_tell (Int32.toInt64 v23) M18) fun _ M19 => bd (m_tell (Int32.toInt64 v24) M19) fun _ M20 => some (v22, M20)) := ⟨_, rfl⟩
  obtain ⟨K2, hK2⟩ : ∃ K2 : PM → Option (Int32 × PM), K2 = (fun (M12 : PM) => m_law_L133 (zn s) (some 83) (zn C.rl) K3 FU 0 0 0 0 M12) := ⟨_, rfl⟩
  obtain ⟨K1, hK1⟩ : ∃ K1 : PM → Option (Int32 × PM), K1 = (fun (M7 : PM) =>
    lt (M7.r 72 22) fun r1 =>
    lt (M7.i 72 24) fun v7 =>
    lt (M7.r 72 23) fun r2 =>
    lt (M7.sr 72 22 r2) fun M8 =>
    lt (M8.si 72 24 (zn nT)) fun M9 =>
    m_law_L95 (zn s) (zn nT) r1 v7 (fun (M12 : PM) =>
    m_law_L133 (zn s) r1 v7 (fun (v22 : Int32) (v23 : Int32) (v24 : Int32) (M15 : PM) =>
    lt (M15.sr 72 22 r1) fun M16 =>
    lt (M16.si 72 24 v7) fun M17 =>
    lt (M17.si 72 12 0) fun M18 =>
    bd (m_tell (Int32.toInt64 v23) M18) fun _ M19 =>
    bd (m_tell (Int32.toInt64 v24) M19) fun _ M20 =>
    some (v22, M20)) FU 0 0 0 0 M12) FU 0 M9) := ⟨_, rfl⟩
  have hun : m_law (zn s) M = m_law_L42 (zn s) (zn nT) K1 FU 0 M1 := by
    unfold m_law
    rw [lt_u, s0.t.2.1, lt_u, bde (mt_stat s0.y hs), if_neg (by decide), bde e1, if_neg (by decide), hK1]
  obtain ⟨N1, eA, fA, v96⟩ := ms_lawA s1.y s1.b (zn s) (zn nT) K1
  have c1 : Fq yqt M1 N1 := fA.mo (d := yqt) (fun o j q => q.elim (ca_yqt o j) (fun w => Or.inl (by unfold ts; omega)))
  have sA : YS C A 0 bT nU U ch K l N1 := s1.q c1 (s1.t.fr fA (by unfold ca; omega) (fun j => by unfold ca; omega)) (s1.ly.fr fA (by unfold ca; omega) (fun j => by unfold ca; omega))
  have q22 : N1.r 72 22 = some 83 := sA.y.ru.2.1
  have q24 : N1.i 72 24 = zn C.rl := sA.y.ru.2.2.1
  have q23 : N1.r 72 23 = some 84 := sA.1.2
  obtain ⟨N2, hN2⟩ : ∃ N2, N2 = (N1.sr 72 22 (some 84)).si 72 24 (zn nT) := ⟨_, rfl⟩
  have f2 : Fq (fun o j => o = 72 ∧ (j = 22 ∨ j = 24)) N1 N2 := by rw [hN2]; exact Fq.si (c := fun o j => o = 72 ∧ (j = 22 ∨ j = 24)) (Fq.sr (c := fun o j => o = 72 ∧ (j = 22 ∨ j = 24)) Fq.rf ⟨rfl, Or.inl rfl⟩) ⟨rfl, Or.inr rfl⟩
  have r22 : N2.r 72 22 = some 84 := by rw [hN2, si_r, sr_r, if_pos ⟨rfl, rfl⟩]
  have r24 : N2.i 72 24 = zn nT := by rw [hN2, si_i, if_pos ⟨rfl, rfl⟩]
  have sh2 : Sh N2 := sA.y.sh.fr f2 (by decide +kernel)
  have hst : K1 N1 = m_law_L95 (zn s) (zn nT) (some 83) (zn C.rl) K2 FU 0 N2 := by
    rw [hK1]
    simp only [lt_u, q22, q24, q23]
    rw [← hN2, hK2, hK3]
    simp only [lt_u]
  obtain ⟨N3, e3, f3, v3⟩ := ms_copy (b := bT) (m_law_L95 (zn s) (zn nT) (some 83) (zn C.rl) K2) K2 (fun n v M3 => by rw [m_law_L95]) (Or.inr rfl) r22 (kd84 sh2) n40 (sA.t.fr f2 (by omega) (fun j => by omega))
  have f23 : Fq (fun o j => o = 84 ∨ (o = 72 ∧ (j = 22 ∨ j = 24))) N1 N3 := (f2.mo (fun o j w => Or.inr w)).tr (f3.mo (fun o j w => Or.inl w))
  have y3 : CY 84 (C.rul nT bT) N3 := sA.y.rul g h.t.1.2 (Or.inr rfl) f23 (sh2.fr f3 (by decide +kernel)) ((f3.r _ _ (by omega)).trans r22) ((f3.i _ _ (by omega)).trans r24) v3
  obtain ⟨N4, e4, f4⟩ := ms_lawB (C := C) (C' := C.rul nT bT) (A := A) y3 (sA.b.fr f23 (fun j => by omega)) rfl (zn s) (some 83) (zn C.rl) (fun w hw => by rw [f23.i _ _ (by omega)]; exact v96 w hw) K3
  obtain ⟨N5, hN5⟩ : ∃ N5, N5 = (N4.sr 72 22 (some 83)).si 72 24 (zn C.rl) := ⟨_, rfl⟩
  have f5 : Fq (fun o j => o = 72 ∧ (j = 22 ∨ j = 24)) N4 N5 := by rw [hN5]; exact Fq.si (c := fun o j => o = 72 ∧ (j = 22 ∨ j = 24)) (Fq.sr (c := fun o j => o = 72 ∧ (j = 22 ∨ j = 24)) Fq.rf ⟨rfl, Or.inl rfl⟩) ⟨rfl, Or.inr rfl⟩
  have t22 : N5.r 72 22 = some 83 := by rw [hN5, si_r, sr_r, if_pos ⟨rfl, rfl⟩]
  have t24 : N5.i 72 24 = zn C.rl := by rw [hN5, si_i, if_pos ⟨rfl, rfl⟩]
  obtain ⟨M3, e6, f6, l6⟩ := ms_tell0 N5 ((lwS C (C.rul nT bT) (zn s) (A 12) C.nw).2.1.toInt64)
  obtain ⟨M4, e7, f7, l7⟩ := ms_tell1 l6 ((lwS C (C.rul nT bT) (zn s) (A 12) C.nw).2.2.toInt64)
  have f67 := f6.tr f7
  have fy : Fq lwy N1 N5 := ((f23.mo (d := lwy) (fun o j q => q.elim (fun w => Or.inl (Or.inl (by unfold ts; omega))) Or.inr)).tr (f4.mo (d := lwy) (fun o j q => Or.inl (ca_yqt o j q)))).tr (f5.mo (d := lwy) (fun o j q => Or.inr q))
  have fz : Fq lwy N1 M4 := fy.tr (f67.mo (d := lwy) (fun o j q => Or.inl (q.elim (fun w => Or.inr (Or.inl ⟨w.1, Or.inl w.2⟩)) (fun w => Or.inr (Or.inr (Or.inl w))))))
  have yz : CY 83 C M4 := by
    refine ⟨⟨sA.y.sh.fr fz shR_lwy, sA.y.ok⟩, ⟨?_, ?_, ?_, ?_⟩, sA.y.w fz (fun o j q1 q2 => by unfold lwy yqt ts; omega), sA.y.e fz (fun j => by unfold lwy yqt ts; omega), Or.inl rfl, ?_, ?_, fun k hk => ?_⟩
    · rw [fz.i _ _ (by unfold lwy yqt ts; omega)]; exact sA.y.ns
    · rw [fz.i _ _ (by unfold lwy yqt ts; omega)]; exact sA.y.nw
    · rw [fz.i _ _ (by unfold lwy yqt ts; omega)]; exact sA.y.nt
    · rw [fz.i _ _ (by unfold lwy yqt ts; omega)]; exact sA.y.ne
    · rw [f67.r _ _ (by unfold rwy; omega)]; exact t22
    · rw [f67.i _ _ (by unfold rwy; omega)]; exact t24
    · rw [fz.i _ _ (by unfold lwy yqt ts; omega)]; exact sA.y.ru.2.2.2 k hk
  have hg : Fq gyc M M4 := (((f0.mo (d := gyc) (fun o j q => Or.inl (by omega))).tr ((f1.mo byr_qt).gy)).tr c1.gy).tr (fz.mo (d := gyc) (fun o j q => q.elim (fun w => ymt_gy o j (Or.inl w)) (fun w => Or.inl (by omega))))
  have rt : M4.r 72 23 = some 84 := by rw [fz.r _ _ (by unfold lwy yqt ts; omega)]; exact q23
  have tT : TY 0 bT M4 := by
    have z1 := sA.t.fr f23 (by omega) (fun j => by omega)
    have z2 := (z1.fr f4 (by unfold ca; omega) (fun j => by unfold ca; omega)).fr f5 (by omega) (fun j => by omega)
    exact z2.fr f67 (by unfold rwy; omega) (fun j => by unfold rwy; omega)
  refine ⟨M4, ?_, hg, ⟨yz, rt⟩, sA.b.fr fz (fun j => by unfold lwy yqt ts; omega), tT, sA.u.fr fz (fun j => by unfold lwy yqt ts; omega) (by unfold lwy yqt ts; omega), sA.kk.fr fz (fun o j q1 q2 => by unfold lwy yqt ts; omega) (by unfold lwy yqt ts; omega), l7⟩
  rw [hun, eA, hst, e3, hK2]
  have e4' : (fun (M12 : PM) => m_law_L133 (zn s) (some 83) (zn C.rl) K3 FU 0 0 0 0 M12) N3 = m_law_L133 (zn s) (some 83) (zn C.rl) K3 FU 0 0 0 0 N3 := rfl
  rw [e4', e4, hK3]
  simp only [lt_u]
  rw [← hN5, bde e6, bde e7]
theorem call_law (p : Int32) : Call (x_law p) (m_law p) := by
  refine Call.xy (fun C A nT bT nU U ch K l hC hA h15 ht => ?_)
  have b2 := hC.ns6
  have y0 : ∀ M, YS C A nT bT nU U ch K l M → YS C A nT bT nU U ch K l (M.si 72 13 0) ∧ Fq gyc M (M.si 72 13 0) := fun M h => by
    have f0 : Fq (fun o j => o = 72 ∧ j = 13) M (M.si 72 13 0) := Fq.si (c := fun o j => o = 72 ∧ j = 13) Fq.rf ⟨rfl, rfl⟩
    exact ⟨h.q (f0.mo (d := yqt) (fun o j q => Or.inr (Or.inl ⟨q.1, Or.inr (Or.inl q.2)⟩))) (h.t.fr f0 (by omega) (fun j => by omega)) (h.ly.fr f0 (by omega) (fun j => by omega)), f0.mo (d := gyc) (fun o j q => Or.inl (by omega))⟩
  rcases dm_or (show C.ns < 2147483648 by omega) p with ⟨s, hs, rfl⟩ | hn
  · by_cases g : okR nT bT
    · exact ⟨_, C, A, 0, bT, nU, U, K, _, two15 _ _, fun M h => xs_law h g hs, fun M h => ys_law h g hs⟩
    · refine ⟨-1 - zn (prs bT (min nT 40)).1, C, A, 0, bT, nU, U, K, l, h15, fun M h => ?_, fun M h => ?_⟩
      · obtain ⟨M1, e1, f1, ⟨b1, b2⟩, T1⟩ := (xs_readsRule h.t h.x.sh).2 g
        have s1 := h.gr f1 T1
        have := prs_le bT (min nT 40)
        refine ⟨M1, ?_, f1.mo bxr_gx, s1, by omega, by omega⟩
        unfold x_law
        rw [bde e1, bde (xt_stat s1.x hs), if_neg (by decide), if_neg (m1p_neg (p := (prs bT (min nT 40)).1) (by omega))]
      · obtain ⟨s0, f0⟩ := y0 M h
        obtain ⟨M1, e1, f1, T1, i18⟩ := (ms_readRule s0.t s0.y.sh).2 g
        refine ⟨M1, ?_, f0.tr ((f1.mo byr_qt).gy), s0.q (f1.mo byr_qt) T1 (s0.ly.fr f1 (by unfold byr; omega) (fun j => by unfold byr; omega))⟩
        unfold m_law
        rw [lt_u, s0.t.2.1, lt_u, bde (mt_stat s0.y hs), if_neg (by decide), bde e1, if_pos rfl, i18]
  · refine ⟨-100, C, A, 0, bT, nU, U, K, l, h15, fun M h => ?_, fun M h => ?_⟩
    · have hz : ∃ v M1, x_readsRule M = some (v, M1) ∧ Ge bxr M M1 ∧ (M1.n ≤ M.n + 40 ∧ M1.w ≤ M.w + 200) ∧ TX 0 bT M1 := by
        by_cases g : okR nT bT
        · obtain ⟨M1, e1, f1, b1, T1, -⟩ := (xs_readsRule h.t h.x.sh).1 g
          exact ⟨_, M1, e1, f1, b1, T1⟩
        · obtain ⟨M1, e1, f1, b1, T1⟩ := (xs_readsRule h.t h.x.sh).2 g
          exact ⟨_, M1, e1, f1, b1, T1⟩
      obtain ⟨v, M1, e1, f1, ⟨b1, b3⟩, T1⟩ := hz
      have s1 := h.gr f1 T1
      refine ⟨M1, ?_, f1.mo bxr_gx, s1, by omega, by omega⟩
      unfold x_law
      rw [bde e1, bde (xn_stat s1.x hn), if_pos rfl]
    · obtain ⟨s0, f0⟩ := y0 M h
      have f2 : Fq (fun o j => o = 72 ∧ j = 10) (M.si 72 13 0) ((M.si 72 13 0).si 72 10 0) := Fq.si (c := fun o j => o = 72 ∧ j = 10) Fq.rf ⟨rfl, rfl⟩
      refine ⟨(M.si 72 13 0).si 72 10 0, ?_, f0.tr (f2.mo (d := gyc) (fun o j q => Or.inl (by omega))), s0.q (f2.mo (d := yqt) (fun o j q => Or.inr (Or.inl ⟨q.1, Or.inr (Or.inr q.2)⟩))) ⟨⟨by omega, s0.t.1.2⟩, by rw [si_i, if_pos ⟨rfl, rfl⟩]; rfl, fun k hk => ?_⟩ (s0.ly.fr f2 (by omega) (fun j => by omega))⟩
      · unfold m_law
        rw [lt_u, s0.t.2.1, lt_u, bde (mn_stat s0.y hn), if_pos rfl, lt_u]
      · rw [f2.i _ _ (by omega)]; exact s0.t.2.2 k hk
end
