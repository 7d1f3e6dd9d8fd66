set_option maxRecDepth 100000
section
variable {C : SV} {A : Nat → Int32} {M M1 : PM} {nT nU ch n s : Nat} {bT b : Nat → Nat} {U : Nat → Nat → Int32} {K : Nat → Bool × (Nat → Int32) × Nat} {l : List Int64}
theorem dgs_of (h : ldg bT nT 12 0 = nT) : dgs bT nT := by
  obtain ⟨h1, h2, h3, h4⟩ := ldg_ok bT nT 12 0 (fun i hi => absurd hi (Nat.not_lt_zero i))
  rw [h] at h2 h4
  exact ⟨by omega, fun i hi => isd_iff.mp (h4 i hi)⟩
theorem xs_sentence (h : XS C A nT bT nU U ch K l M) (hs : s < C.ns) :
    (ldg bT nT 12 0 = nT → 0 < nT → (VP 1000000000 C bT nT (zn s) (A 12) nT).1 < 1000000000 → ∃ M1, x_sentence (zn s) M = some (zn (VP 1000000000 C bT nT (zn s) (A 12) nT).1, M1) ∧ Ge gxc M M1 ∧ XS C A 0 bT nU U ch K (lsS 1000000000 C bT nT (zn s) (A 12) nT 0) M1 ∧ M1.n ≤ M.n + 500 ∧ M1.w ≤ M.w + 5000) ∧
    (ldg bT nT 12 0 = nT → 0 < nT → ¬ (VP 1000000000 C bT nT (zn s) (A 12) nT).1 < 1000000000 → ∃ M1, x_sentence (zn s) M = some (-200, M1) ∧ Ge gxc M M1 ∧ XS C A 0 bT nU U ch K l M1 ∧ M1.n ≤ M.n + 500 ∧ M1.w ≤ M.w + 5000) ∧
    (¬ (ldg bT nT 12 0 = nT ∧ 0 < nT) → ∃ M1, x_sentence (zn s) M = some (-1 - zn (ldg bT nT 12 0), M1) ∧ Ge gxc M M1 ∧ XS C A 0 bT nU U ch K l M1 ∧ M1.n ≤ M.n + 500 ∧ M1.w ≤ M.w + 5000) := by
  have t1 := h.t.1.1
  obtain ⟨M1, e1, f1, i17, i19, X1, T1⟩ := xs_begins (m := 80) h.t h.x.sh (by omega)
  rw [Nat.min_eq_left t1] at X1
  have e1' : x_begins 80 M = _ := e1
  have s1 : XS C A 0 bT nU U ch K l M1 := h.q (f1.mo bgx_qt) T1 (h.lx.fr f1 (by unfold bgx; omega) (fun j => by unfold bgx; omega))
  obtain ⟨M3, hM3⟩ : ∃ M3, M3 = M1.si 20 51 0 := ⟨_, rfl⟩
  have f3 : Fq (fun o j => o = 20 ∧ j = 51) M1 M3 := by rw [hM3]; exact Fq.si (c := fun o j => o = 20 ∧ j = 51) Fq.rf ⟨rfl, rfl⟩
  have X3 : XP bT nT M3 := X1.fr f3 (by omega) (fun j => by omega)
  obtain ⟨Kb, hKb⟩ : ∃ Kb : PM → Option (Int32 × PM), Kb = (fun (M27 : PM) => ck 0 14 <| some ((M27.i 60 (ix 0)), M27)) := ⟨_, rfl⟩
  obtain ⟨Ka, hKa⟩ : ∃ Ka : PM → Option (Int32 × PM), Ka = (fun (M19 : PM) => ck 0 14 <| if (M19.i 60 (ix 0)) < 1000000000 then (lt (M19.si 20 67 0) fun M20 => x_sentence_L188 (zn s) Kb FU 0 M20) else (some ((-200), M19))) := ⟨_, rfl⟩
  obtain ⟨Kd, hKd⟩ : ∃ Kd : PM → Option (Int32 × PM), Kd = (fun (M10 : PM) =>
    jn (fun (M11 : PM) =>
    some (((-1) - (M11.i 20 17)), M11)) fun j2 =>
    if (M10.i 20 51) = 0 then (j2 M10)
    else (if (M10.i 20 18) ≤ (M10.i 20 17) then (ck (M10.i 20 51) 14 <|
    lt (M10.si 60 (ix (M10.i 20 51)) 0) fun M12 =>
    lt ((M12.i 20 51) - 1) fun v5 =>
    x_sentence_L108 (zn s) Ka FU v5 M12)
    else (j2 M10))) := ⟨_, rfl⟩
  have hun : x_sentence (zn s) M = x_sentence_L23 (zn s) Kd FU M3 := by
    unfold x_sentence
    rw [bde e1', bde (xt_stat s1.x hs), if_neg (by decide), lt_u, ← hM3, hKd, hKa, hKb]
  obtain ⟨M4, e4, f4, X4, j17, j51, j59⟩ := xs_digs (n := nT) (b := bT) t1 (zn s) Kd 12 0 FU M3 (by omega) (FU_lt (by omega)) X3 ((f3.i _ _ (by omega)).trans i17) (by rw [hM3, si_i, if_pos ⟨rfl, rfl⟩]; rfl) (fun i hi => absurd hi (Nat.not_lt_zero i))
  have f34 : Fq xqt M1 M4 := (f3.mo (d := xqt) (fun o j q => Or.inl (Or.inl ⟨q.1, by omega⟩))).tr (f4.mo cdX_qt)
  have s4 : XS C A 0 bT nU U ch K l M4 := s1.q f34 ((T1.fr f3 (by omega) (fun j => by omega)).fr f4 (by unfold cdX; omega) (fun j => by unfold cdX; omega)) ((s1.lx.fr f3 (by omega) (fun j => by omega)).fr f4 (by unfold cdX; omega) (fun j => by unfold cdX; omega))
  have ff : Fq xqt M M4 := (f1.mo bgx_qt).tr f34
  obtain ⟨h1, h2, h3, h4⟩ := ldg_ok bT nT 12 0 (fun i hi => absurd hi (Nat.not_lt_zero i))
  have h3' := h3 (Nat.zero_le _)
  have hrun : x_sentence (zn s) M = if M4.i 20 51 = 0 then some (((-1) - (M4.i 20 17)), M4) else (if (M4.i 20 18) ≤ (M4.i 20 17) then (ck (M4.i 20 51) 14 <| x_sentence_L108 (zn s) Ka FU (((M4.si 60 (ix (M4.i 20 51)) 0).i 20 51) - 1) (M4.si 60 (ix (M4.i 20 51)) 0)) else some (((-1) - (M4.i 20 17)), M4)) := by
    rw [hun, e4, hKd]
    simp only [jn_u, lt_u]
  have ok : ldg bT nT 12 0 = nT → 0 < nT → ∃ M6, x_sentence (zn s) M = Ka M6 ∧ Fq xqt M M6 ∧ XS C A 0 bT nU U ch K l M6 ∧ dgX bT nT M6 ∧ rsX 1000000000 60 C bT nT (zn s) (A 12) 0 M6 := by
    intro g g0
    rw [g] at j17 j51 j59
    have hd := dgs_of g
    have n12 := hd.1
    obtain ⟨N, hN⟩ : ∃ N, N = M4.si 60 nT 0 := ⟨_, rfl⟩
    have fN : Fq (fun o j => o = 60 ∧ j = nT) M4 N := by rw [hN]; exact Fq.si (c := fun o j => o = 60 ∧ j = nT) Fq.rf ⟨rfl, rfl⟩
    have fNq : Fq xqt M4 N := (fN.mo (d := csX) (fun o j w => Or.inr w.1)).mo csX_qt
    have sN : XS C A 0 bT nU U ch K l N := s4.q fNq (s4.t.fr fN (by omega) (fun j => by omega)) (s4.lx.fr fN (by omega) (fun j => by omega))
    have dN : dgX bT nT N := ⟨(fN.i _ _ (by omega)).trans j51, fun i hi => (fN.i _ _ (by omega)).trans (j59 i hi)⟩
    obtain ⟨M6, e6, f6, r6⟩ := xs_allCosts (s := s) hd Ka (nT - 1) (by omega) FU N (FU_lt (by omega)) sN.x sN.a dN (fun j q1 q2 => by
      have : j = nT := by omega
      subst this
      rw [hN, si_i, if_pos ⟨rfl, rfl⟩, Nat.sub_self]
      rfl)
    have f6q := f6.mo csX_qt
    refine ⟨M6, ?_, (ff.tr fNq).tr f6q, sN.q f6q (sN.t.fr f6 (by unfold csX ca; omega) (fun j => by unfold csX ca; omega)) (sN.lx.fr f6 (by unfold csX ca; omega) (fun j => by unfold csX ca; omega)), ⟨(f6.i _ _ (by unfold csX ca; omega)).trans dN.1, fun i hi => (f6.i _ _ (by unfold csX ca; omega)).trans (dN.2 i hi)⟩, r6⟩
    rw [hrun, j51, if_neg (by rw [zn_eq_l (by omega) (by omega)]; omega), X4.2.1, j17, if_pos (Int32.le_refl _), ck_zn (by omega) (by omega), ix_zn (by omega), ← hN, dN.1, show zn nT - 1 = zn (nT - 1) from zn_subl (n := 1) g0, e6]
  refine ⟨fun g g0 gv => ?_, fun g g0 gv => ?_, fun g => ?_⟩
  · obtain ⟨M6, e6, f6, s6, d6, r6⟩ := ok g g0
    have hd := dgs_of g
    have v0 : M6.i 60 0 = zn (VP 1000000000 C bT nT (zn s) (A 12) nT).1 := r6 0 (Nat.le_refl _) (Nat.zero_le _)
    have fz : Fq (fun o j => o = 20 ∧ j = 67) M6 (M6.si 20 67 0) := Fq.si (c := fun o j => o = 20 ∧ j = 67) Fq.rf ⟨rfl, rfl⟩
    have sz : XS C A 0 bT nU U ch K [] (M6.si 20 67 0) := s6.q (fz.mo (d := xqt) (fun o j q => Or.inr (Or.inl ⟨q.1, Or.inl q.2⟩))) (s6.t.fr fz (by omega) (fun j => by omega)) (lx0 M6)
    obtain ⟨M8, e8, f8, l8⟩ := xs_tellS (s := s) hd Kb nT 0 [] FU (M6.si 20 67 0) (by omega) (FU_lt (by have := hd.1; omega)) (Nat.zero_le _) (by have := hd.1; show 0 + nT ≤ 15; omega) gv sz.x sz.a ⟨(fz.i _ _ (by omega)).trans d6.1, fun i hi => (fz.i _ _ (by omega)).trans (d6.2 i hi)⟩ (fun j q1 q2 => by rw [fz.i _ _ (by omega)]; exact r6 j q1 q2) (lx0 M6)
    have f8q : Fq xqt (M6.si 20 67 0) M8 := f8.mo (d := xqt) (fun o j q => q.elim (ca_xqt o j) (rwx_qt o j))
    have fzq : Fq xqt M6 (M6.si 20 67 0) := fz.mo (d := xqt) (fun o j q => Or.inr (Or.inl ⟨q.1, Or.inl q.2⟩))
    have fall : Fq xqt M M8 := (f6.tr fzq).tr f8q
    have v8 : M8.i 60 0 = zn (VP 1000000000 C bT nT (zn s) (A 12) nT).1 := by rw [f8.i _ _ (by unfold crX ca rwx; omega), fz.i _ _ (by omega)]; exact v0
    refine ⟨M8, ?_, fall.gx, sz.q f8q (sz.t.fr f8 (by unfold crX ca rwx; omega) (fun j => by unfold crX ca rwx; omega)) (by rw [List.nil_append] at l8; exact l8), fall.n5, fall.w5⟩
    rw [e6, hKa]
    simp only [lt_u, ck014, ix0]
    rw [v0, b9, if_pos (by rw [zn_lt (by omega) (by omega)]; exact gv)]
    rw [show zn 0 = (0 : Int32) from rfl] at e8
    rw [e8, hKb]
    simp only [ck014, ix0]
    rw [v8]
  · obtain ⟨M6, e6, f6, s6, d6, r6⟩ := ok g g0
    have v0 : M6.i 60 0 = zn (VP 1000000000 C bT nT (zn s) (A 12) nT).1 := r6 0 (Nat.le_refl _) (Nat.zero_le _)
    have vl := (VP_le (C := C) (b := bT) (n := nT) (st := zn s) (hr := A 12) (I := 1000000000) nT).1
    refine ⟨M6, ?_, f6.gx, s6, f6.n5, f6.w5⟩
    rw [e6, hKa]
    simp only [lt_u, ck014, ix0]
    rw [v0, b9, if_neg (by rw [zn_lt (by omega) (by omega)]; exact gv)]
  · refine ⟨M4, ?_, ff.gx, s4, ff.n5, ff.w5⟩
    rw [hrun, j17]
    by_cases g0 : ldg bT nT 12 0 = 0
    · rw [if_pos (by rw [j51, g0]; rfl)]
    · rw [if_neg (by rw [j51, zn_eq_l (by omega) (by omega)]; exact g0), X4.2.1, if_neg (by rw [zn_le (by omega) (by omega)]; omega)]
end
