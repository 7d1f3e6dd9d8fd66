set_option maxRecDepth 100000
section
variable {C : SV} {A : Nat → Int32} {M M1 : PM} {nT nU ch n s : Nat} {bT b : Nat → Nat} {U : Nat → Nat → Int32} {K : Nat → Bool × (Nat → Int32) × Nat} {l : List Int64}
theorem ys_begin (h : YS C A nT bT nU U ch K l M) : YS C A 0 bT nU U ch K l ((M.si 72 13 0).si 72 10 0) ∧ Fq yqt M ((M.si 72 13 0).si 72 10 0) ∧ (M.si 72 13 0).i 72 10 = zn nT := by
  have f0 : Fq (fun o j => o = 72 ∧ j = 13) M (M.si 72 13 0) := Fq.si (c := fun o j => o = 72 ∧ j = 13) Fq.rf ⟨rfl, rfl⟩
  have f1 : Fq (fun o j => o = 72 ∧ j = 10) (M.si 72 13 0) ((M.si 72 13 0).si 72 10 0) := Fq.si (c := fun o j => o = 72 ∧ j = 10) Fq.rf ⟨rfl, rfl⟩
  have q : Fq yqt M ((M.si 72 13 0).si 72 10 0) := (f0.mo (d := yqt) (fun o j q => Or.inr (Or.inl ⟨q.1, Or.inr (Or.inl q.2)⟩))).tr (f1.mo (d := yqt) (fun o j q => Or.inr (Or.inl ⟨q.1, Or.inr (Or.inr q.2)⟩)))
  refine ⟨h.q q ⟨⟨by omega, h.t.1.2⟩, by rw [si_i, if_pos ⟨rfl, rfl⟩]; rfl, fun k hk => ?_⟩ ((h.ly.fr f0 (by omega) (fun j => by omega)).fr f1 (by omega) (fun j => by omega)), q, ?_⟩
  · rw [f1.i _ _ (by omega), f0.i _ _ (by omega)]; exact h.t.2.2 k hk
  · rw [f0.i _ _ (by omega)]; exact h.t.2.1
theorem ys_sentence (h : YS C A nT bT nU U ch K l M) (hs : s < C.ns) :
    (ldg bT nT 12 0 = nT → 0 < nT → (VP 100000000 C bT nT (zn s) (A 12) nT).1 < 100000000 → ∃ M1, m_sentence (zn s) M = some (zn (VP 100000000 C bT nT (zn s) (A 12) nT).1, M1) ∧ Fq gyc M M1 ∧ YS C A 0 bT nU U ch K (lsS 100000000 C bT nT (zn s) (A 12) nT 0) M1) ∧
    (ldg bT nT 12 0 = nT → 0 < nT → ¬ (VP 100000000 C bT nT (zn s) (A 12) nT).1 < 100000000 → ∃ M1, m_sentence (zn s) M = some (-200, M1) ∧ Fq gyc M M1 ∧ YS C A 0 bT nU U ch K l M1) ∧
    (¬ (ldg bT nT 12 0 = nT ∧ 0 < nT) → ∃ M1, m_sentence (zn s) M = some (-1 - zn (ldg bT nT 12 0), M1) ∧ Fq gyc M M1 ∧ YS C A 0 bT nU U ch K l M1) := by
  have t1 := h.t.1.1
  obtain ⟨s1, f1, i10⟩ := ys_begin h
  obtain ⟨M1, hM1⟩ : ∃ M1, M1 = (M.si 72 13 0).si 72 10 0 := ⟨_, rfl⟩
  rw [← hM1] at s1 f1
  obtain ⟨Kb, hKb⟩ : ∃ Kb : PM → Option (Int32 × PM), Kb = (fun (M29 : PM) => ck 0 13 <| some ((M29.i 90 (ix 0)), M29)) := ⟨_, rfl⟩
  obtain ⟨Ka, hKa⟩ : ∃ Ka : PM → Option (Int32 × PM), Ka = (fun (M18 : PM) => ck 0 13 <| if (M18.i 90 (ix 0)) < 100000000 then (lt (M18.si 72 12 0) fun M19 => m_sentence_L191 (zn s) (zn nT) Kb FU 0 M19) else (some ((-200), M18))) := ⟨_, rfl⟩
  obtain ⟨Kc, hKc⟩ : ∃ Kc : PM → Option (Int32 × PM), Kc = (fun (M7 : PM) => if zn nT = 0 then (some ((-1), M7)) else (ck (zn nT) 13 <| lt (M7.si 90 (ix (zn nT)) 0) fun M8 => lt (zn nT - 1) fun v6 => m_sentence_L82 (zn s) (zn nT) Ka FU v6 M8)) := ⟨_, rfl⟩
  obtain ⟨Ke, hKe⟩ : ∃ Ke : Int32 → PM → Option (Int32 × PM), Ke = (fun (v23 : Int32) (M30 : PM) => some (((-1) - v23), M30)) := ⟨_, rfl⟩
  have hun : m_sentence (zn s) M = m_sentence_L28 (zn s) (zn nT) Kc Ke FU 0 M1 := by
    unfold m_sentence
    rw [lt_u, i10, lt_u, lt_u, ← hM1, bde (mt_stat s1.y hs), if_neg (by decide), hKc, hKa, hKb, hKe]
  have hdg := ms_digs (n := nT) (b := bT) t1 (zn s) Kc Ke s1.t 12 0 FU (by omega) (FU_lt (by omega)) (Nat.zero_le _)
  rw [show zn 0 = (0 : Int32) from rfl, ← hun] at hdg
  have ok : ldg bT nT 12 0 = nT → 0 < nT → ∃ M6, m_sentence (zn s) M = Ka M6 ∧ Fq yqt M M6 ∧ YS C A 0 bT nU U ch K l M6 ∧ rsX 100000000 90 C bT nT (zn s) (A 12) 0 M6 := by
    intro g g0
    have hd := dgs_of g
    have n12 := hd.1
    obtain ⟨N, hN⟩ : ∃ N, N = M1.si 90 nT 0 := ⟨_, rfl⟩
    have fN : Fq csY M1 N := by rw [hN]; exact Fq.si (c := csY) Fq.rf (Or.inr rfl)
    have sN : YS C A 0 bT nU U ch K l N := s1.q (fN.mo csY_qt) (s1.t.csy fN) (s1.ly.fr fN (by unfold csY ca; omega) (fun j => by unfold csY ca; omega))
    obtain ⟨M6, e6, f6, r6⟩ := ms_allCosts (s := s) hd Ka (nT - 1) (by omega) FU N (FU_lt (by omega)) sN.y sN.b sN.t (fun j q1 q2 => by
      have : j = nT := by omega
      subst this
      rw [hN, si_i, if_pos ⟨rfl, rfl⟩, Nat.sub_self]
      rfl)
    refine ⟨M6, ?_, (f1.tr (fN.mo csY_qt)).tr (f6.mo csY_qt), sN.q (f6.mo csY_qt) (sN.t.csy f6) (sN.ly.fr f6 (by unfold csY ca; omega) (fun j => by unfold csY ca; omega)), r6⟩
    rw [hdg, if_pos g, hKc]
    simp only [lt_u]
    rw [if_neg (by rw [zn_eq_l (by omega) (by omega)]; omega), ck_zn (by omega) (by omega), ix_zn (by omega), ← hN, show zn nT - 1 = zn (nT - 1) from zn_subl (n := 1) g0, e6]
  refine ⟨fun g g0 gv => ?_, fun g g0 gv => ?_, fun g => ?_⟩
  · obtain ⟨M6, e6, f6, s6, r6⟩ := ok g g0
    have hd := dgs_of g
    have v0 : M6.i 90 0 = zn (VP 100000000 C bT nT (zn s) (A 12) nT).1 := r6 0 (Nat.le_refl _) (Nat.zero_le _)
    have fz : Fq (fun o j => o = 72 ∧ j = 12) M6 (M6.si 72 12 0) := Fq.si (c := fun o j => o = 72 ∧ j = 12) Fq.rf ⟨rfl, rfl⟩
    have fzq : Fq yqt M6 (M6.si 72 12 0) := fz.mo (d := yqt) (fun o j q => Or.inr (Or.inl ⟨q.1, Or.inl q.2⟩))
    have sz : YS C A 0 bT nU U ch K [] (M6.si 72 12 0) := s6.q fzq (s6.t.fr fz (by omega) (fun j => by omega)) (ly0 M6)
    obtain ⟨M8, e8, f8, l8⟩ := ms_tellS (s := s) hd Kb nT 0 [] FU (M6.si 72 12 0) (by omega) (FU_lt (by have := hd.1; omega)) (Nat.zero_le _) (by have := hd.1; show 0 + nT ≤ 15; omega) gv sz.y sz.b sz.t (fun j q1 q2 => by rw [fz.i _ _ (by omega)]; exact r6 j q1 q2) (ly0 M6)
    have f8q : Fq yqt (M6.si 72 12 0) M8 := f8.mo (d := yqt) (fun o j q => q.elim (ca_yqt o j) (rwy_qt o j))
    have fall : Fq yqt M M8 := (f6.tr fzq).tr f8q
    have v8 : M8.i 90 0 = zn (VP 100000000 C bT nT (zn s) (A 12) nT).1 := by rw [f8.i _ _ (by unfold crY ca rwy; omega), fz.i _ _ (by omega)]; exact v0
    refine ⟨M8, ?_, fall.gy, sz.q f8q (sz.t.fr f8 (by unfold crY ca rwy; omega) (fun j => by unfold crY ca rwy; omega)) (by rw [List.nil_append] at l8; exact l8)⟩
    rw [e6, hKa]
    simp only [lt_u, ck013, ix0]
    rw [v0, b8f, if_pos (by rw [zn_lt (by omega) (by omega)]; exact gv)]
    rw [show zn 0 = (0 : Int32) from rfl] at e8
    rw [e8, hKb]
    simp only [ck013, ix0]
    rw [v8]
  · obtain ⟨M6, e6, f6, s6, r6⟩ := ok g g0
    have v0 : M6.i 90 0 = zn (VP 100000000 C bT nT (zn s) (A 12) nT).1 := r6 0 (Nat.le_refl _) (Nat.zero_le _)
    have vl := (VP_le (C := C) (b := bT) (n := nT) (st := zn s) (hr := A 12) (I := 100000000) nT).1
    refine ⟨M6, ?_, f6.gy, s6⟩
    rw [e6, hKa]
    simp only [lt_u, ck013, ix0]
    rw [v0, b8f, if_neg (by rw [zn_lt (by omega) (by omega)]; exact gv)]
  · refine ⟨M1, ?_, f1.gy, s1⟩
    rw [hdg]
    by_cases g0 : ldg bT nT 12 0 = nT
    · have n0 : nT = 0 := by
        rcases Nat.eq_zero_or_pos nT with e | e
        · exact e
        · exact absurd ⟨g0, e⟩ g
      rw [if_pos g0, hKc]
      simp only
      rw [g0, n0, if_pos (show zn 0 = 0 from rfl)]
      rfl
    · rw [if_neg g0, hKe]
theorem call_sentence (p : Int32) : Call (x_sentence p) (m_sentence p) := by
  refine Call.xy (fun C A nT bT nU U ch K l hC hA h15 ht => ?_)
  have b2 := hC.ns6
  rcases dm_or (show C.ns < 2147483648 by omega) p with ⟨s, hs, rfl⟩ | hn
  · by_cases g : ldg bT nT 12 0 = nT ∧ 0 < nT
    · have hd := dgs_of g.1
      obtain ⟨a1, -⟩ := VP_rel (b := bT) (n := nT) (st := zn s) (hr := A 12) hC (I := 1000000000) (J := 100000000) (by omega) (by omega) nT hd.1
      have h12 := hd.1
      unfold relS at a1
      by_cases gv : (VP 1000000000 C bT nT (zn s) (A 12) nT).1 < 1000000000
      · have e1 : (VP 1000000000 C bT nT (zn s) (A 12) nT).1 = (VP 100000000 C bT nT (zn s) (A 12) nT).1 := by omega
        have gv2 : (VP 100000000 C bT nT (zn s) (A 12) nT).1 < 100000000 := by omega
        have el := lsS_rel (b := bT) (n := nT) (st := zn s) (hr := A 12) hC h12 (I := 1000000000) (J := 100000000) (by omega) (by omega) nT 0 (Nat.zero_le _) gv
        have hlen := lsS_len (I := 1000000000) (C := C) (b := bT) (n := nT) (st := zn s) (hr := A 12) nT 0
        refine ⟨zn (VP 1000000000 C bT nT (zn s) (A 12) nT).1, C, A, 0, bT, nU, U, K, lsS 1000000000 C bT nT (zn s) (A 12) nT 0, by omega, fun M h => (xs_sentence h hs).1 g.1 g.2 gv, fun M h => ?_⟩
        rw [el, e1]
        exact (ys_sentence h hs).1 g.1 g.2 gv2
      · have gv2 : ¬ (VP 100000000 C bT nT (zn s) (A 12) nT).1 < 100000000 := by omega
        exact ⟨-200, C, A, 0, bT, nU, U, K, l, h15, fun M h => (xs_sentence h hs).2.1 g.1 g.2 gv, fun M h => (ys_sentence h hs).2.1 g.1 g.2 gv2⟩
    · exact ⟨_, C, A, 0, bT, nU, U, K, l, h15, fun M h => (xs_sentence h hs).2.2 g, fun M h => (ys_sentence h hs).2.2 g⟩
  · refine ⟨-100, C, A, 0, bT, nU, U, K, l, h15, fun M h => ?_, fun M h => ?_⟩
    · obtain ⟨M1, e1, f1, i17, i19, X1, T1⟩ := xs_begins (m := 80) h.t h.x.sh (by omega)
      have e1' : x_begins 80 M = _ := e1
      have fq := f1.mo bgx_qt
      have s1 : XS C A 0 bT nU U ch K l M1 := h.q fq T1 (h.lx.fr f1 (by unfold bgx; omega) (fun j => by unfold bgx; omega))
      refine ⟨M1, ?_, fq.gx, s1, fq.n5, fq.w5⟩
      unfold x_sentence
      rw [bde e1', bde (xn_stat s1.x hn), if_pos rfl]
    · obtain ⟨s1, f1, i10⟩ := ys_begin h
      refine ⟨_, ?_, f1.gy, s1⟩
      unfold m_sentence
      rw [lt_u, lt_u, lt_u, bde (mn_stat s1.y hn), if_pos rfl]
end
