set_option maxRecDepth 100000
/-! ERRANDS: laid among the others -/
def erN (f : Nat → Nat) (n0 k : Nat) (g : Nat → Nat) : Nat → Nat := fun j => if n0 ≤ j ∧ j < n0 + k then g (j - n0) else f j
theorem erN_in {f g : Nat → Nat} {n0 k i : Nat} (h : i < k) : erN f n0 k g (n0 + i) = g i := by
  unfold erN
  rw [if_pos (by omega), Nat.add_sub_cancel_left]
theorem erN_out {f g : Nat → Nat} {n0 k j : Nat} (h : j < n0) : erN f n0 k g j = f j := by
  unfold erN
  rw [if_neg (by omega)]
def SV.err (C : SV) (k : Nat) (F : Nat → DE) : SV := ((C.ns, C.nw, C.nt, C.ne + k), C.2.1, (erN C.who C.ne k (fun i => (F i).1), erN C.em C.ne k (fun i => (F i).2.1), erN C.wh C.ne k (fun i => (F i).2.2.1), erN C.wo C.ne k (fun i => (F i).2.2.2)), C.2.2.2)
section
variable {C : SV} {A : Nat → Int32} {M M1 : PM} {k : Nat} {F : Nat → DE}
theorem err_who : (C.err k F).who = erN C.who C.ne k (fun i => (F i).1) := rfl
theorem err_em : (C.err k F).em = erN C.em C.ne k (fun i => (F i).2.1) := rfl
theorem err_wh : (C.err k F).wh = erN C.wh C.ne k (fun i => (F i).2.2.1) := rfl
theorem err_wo : (C.err k F).wo = erN C.wo C.ne k (fun i => (F i).2.2.2) := rfl
theorem ok_err (h : OKC C) (hk : C.ne + k ≤ 8) (hF : ∀ i, i < k → okE C.nt C.ns (F i)) : OKC (C.err k F) := by
  obtain ⟨a, b, c, d, e, f, g⟩ := h
  refine ⟨a, b, c, hk, e, fun x hx => ?_, g⟩
  have hx' : x < C.ne + k := hx
  rw [err_who, err_em, err_wh, err_wo]
  by_cases q : x < C.ne
  · rw [erN_out q, erN_out q, erN_out q, erN_out q]; exact f x q
  · obtain ⟨i, rfl⟩ : ∃ i, x = C.ne + i := ⟨x - C.ne, by omega⟩
    rw [erN_in (by omega), erN_in (by omega), erN_in (by omega), erN_in (by omega)]
    exact hF i (by omega)
theorem oka_err (h : OKA C A) : OKA (C.err k F) A := by
  obtain ⟨d, hd, he⟩ := h.2.1
  exact ⟨h.1, ⟨d, Nat.lt_of_lt_of_le hd (Nat.pow_le_pow_right (by omega) (show C.ne ≤ C.ne + k by omega)), he⟩, h.2.2⟩
abbrev cec (o j : Nat) : Prop := (35 ≤ o ∧ o ≤ 38) ∨ (o = 20 ∧ j = 13)
abbrev ced (o j : Nat) : Prop := o = 77
theorem xs_layE (hk : C.ne + k ≤ 8) (h13 : M.i 20 13 = zn C.ne) (h24 : M.i 20 24 = zn (C.ne + k)) (hr : ∀ i, i < k → M.i 46 (C.ne + i) = zn (F i).1 ∧ M.i 47 (C.ne + i) = zn (F i).2.1 ∧ M.i 48 (C.ne + i) = zn (F i).2.2.1 ∧ M.i 49 (C.ne + i) = zn (F i).2.2.2) (hv : ∀ e, e < C.ne → M.i 35 e = zn (C.who e) ∧ M.i 36 e = zn (C.em e) ∧ M.i 37 e = zn (C.wh e) ∧ M.i 38 e = zn (C.wo e)) (c5 : Int32) (Kc : PM → Option (Int32 × PM)) : ∃ M', x_errands_L83 c5 Kc FU M = Kc M' ∧ Fq cec M M' ∧ M'.i 20 13 = zn (C.ne + k) ∧ ∀ e, e < C.ne + k → M'.i 35 e = zn ((C.err k F).who e) ∧ M'.i 36 e = zn ((C.err k F).em e) ∧ M'.i 37 e = zn ((C.err k F).wh e) ∧ M'.i 38 e = zn ((C.err k F).wo e) := by
  refine wlp (fun nn _ (_ : Unit) M2 => x_errands_L83 c5 Kc nn M2) k FU (FU_lt (by omega)) (fun _ s => s) () (fun i M2 => Fq cec M M2 ∧ M2.i 20 13 = zn (C.ne + i) ∧ ∀ e, e < C.ne + i → M2.i 35 e = zn ((C.err k F).who e) ∧ M2.i 36 e = zn ((C.err k F).em e) ∧ M2.i 37 e = zn ((C.err k F).wh e) ∧ M2.i 38 e = zn ((C.err k F).wo e)) (fun o => ∃ M', o = Kc M' ∧ Fq cec M M' ∧ M'.i 20 13 = zn (C.ne + k) ∧ ∀ e, e < C.ne + k → M'.i 35 e = zn ((C.err k F).who e) ∧ M'.i 36 e = zn ((C.err k F).em e) ∧ M'.i 37 e = zn ((C.err k F).wh e) ∧ M'.i 38 e = zn ((C.err k F).wo e)) (fun nn i M2 hi hI => ?_) (fun nn M2 hI => ?_) M ⟨Fq.rf, h13, fun e he => ?_⟩
  · obtain ⟨f, i13, v⟩ := hI
    have i24 : M2.i 20 24 = zn (C.ne + k) := (f.i _ _ (by unfold cec; omega)).trans h24
    obtain ⟨q1, q2, q3, q4⟩ := hr i hi
    have p1 : M2.i 46 (C.ne + i) = zn (F i).1 := (f.i _ _ (by unfold cec; omega)).trans q1
    have p2 : M2.i 47 (C.ne + i) = zn (F i).2.1 := (f.i _ _ (by unfold cec; omega)).trans q2
    have p3 : M2.i 48 (C.ne + i) = zn (F i).2.2.1 := (f.i _ _ (by unfold cec; omega)).trans q3
    have p4 : M2.i 49 (C.ne + i) = zn (F i).2.2.2 := (f.i _ _ (by unfold cec; omega)).trans q4
    obtain ⟨N1, hN1⟩ : ∃ N1, N1 = M2.si 35 (C.ne + i) (zn (F i).1) := ⟨_, rfl⟩
    obtain ⟨N2, hN2⟩ : ∃ N2, N2 = N1.si 36 (C.ne + i) (zn (F i).2.1) := ⟨_, rfl⟩
    obtain ⟨N3, hN3⟩ : ∃ N3, N3 = N2.si 37 (C.ne + i) (zn (F i).2.2.1) := ⟨_, rfl⟩
    obtain ⟨N4, hN4⟩ : ∃ N4, N4 = N3.si 38 (C.ne + i) (zn (F i).2.2.2) := ⟨_, rfl⟩
    obtain ⟨M5, hM5⟩ : ∃ M5, M5 = N4.si 20 13 (zn (C.ne + i + 1)) := ⟨_, rfl⟩
    have g1 : Fq (fun o j => o = 35 ∧ j = C.ne + i) M2 N1 := by rw [hN1]; exact Fq.si (c := fun o j => o = 35 ∧ j = C.ne + i) Fq.rf ⟨rfl, rfl⟩
    have g2 : Fq (fun o j => o = 36 ∧ j = C.ne + i) N1 N2 := by rw [hN2]; exact Fq.si (c := fun o j => o = 36 ∧ j = C.ne + i) Fq.rf ⟨rfl, rfl⟩
    have g3 : Fq (fun o j => o = 37 ∧ j = C.ne + i) N2 N3 := by rw [hN3]; exact Fq.si (c := fun o j => o = 37 ∧ j = C.ne + i) Fq.rf ⟨rfl, rfl⟩
    have g4 : Fq (fun o j => o = 38 ∧ j = C.ne + i) N3 N4 := by rw [hN4]; exact Fq.si (c := fun o j => o = 38 ∧ j = C.ne + i) Fq.rf ⟨rfl, rfl⟩
    have g5 : Fq (fun o j => o = 20 ∧ j = 13) N4 M5 := by rw [hM5]; exact Fq.si (c := fun o j => o = 20 ∧ j = 13) Fq.rf ⟨rfl, rfl⟩
    have f5 : Fq cec M2 M5 := ((((g1.mo (d := cec) (fun o j w => by unfold cec; omega)).tr (g2.mo (fun o j w => by unfold cec; omega))).tr (g3.mo (fun o j w => by unfold cec; omega))).tr (g4.mo (fun o j w => by unfold cec; omega))).tr (g5.mo (fun o j w => by unfold cec; omega))
    refine ⟨M5, ⟨f.tr f5, by rw [hM5, si_i, if_pos ⟨rfl, rfl⟩]; rfl, fun e he => ?_⟩, ?_⟩
    · by_cases q : e = C.ne + i
      · subst q
        rw [err_who, err_em, err_wh, err_wo]
        rw [erN_in hi, erN_in hi, erN_in hi, erN_in hi]
        refine ⟨?_, ?_, ?_, ?_⟩
        · rw [g5.i _ _ (by omega), g4.i _ _ (by omega), g3.i _ _ (by omega), g2.i _ _ (by omega), hN1, si_i, if_pos ⟨rfl, rfl⟩]
        · rw [g5.i _ _ (by omega), g4.i _ _ (by omega), g3.i _ _ (by omega), hN2, si_i, if_pos ⟨rfl, rfl⟩]
        · rw [g5.i _ _ (by omega), g4.i _ _ (by omega), hN3, si_i, if_pos ⟨rfl, rfl⟩]
        · rw [g5.i _ _ (by omega), hN4, si_i, if_pos ⟨rfl, rfl⟩]
      · obtain ⟨u1, u2, u3, u4⟩ := v e (by omega)
        refine ⟨?_, ?_, ?_, ?_⟩
        · rw [g5.i _ _ (by omega), g4.i _ _ (by omega), g3.i _ _ (by omega), g2.i _ _ (by omega), g1.i _ _ (by omega)]; exact u1
        · rw [g5.i _ _ (by omega), g4.i _ _ (by omega), g3.i _ _ (by omega), g2.i _ _ (by omega), g1.i _ _ (by omega)]; exact u2
        · rw [g5.i _ _ (by omega), g4.i _ _ (by omega), g3.i _ _ (by omega), g2.i _ _ (by omega), g1.i _ _ (by omega)]; exact u3
        · rw [g5.i _ _ (by omega), g4.i _ _ (by omega), g3.i _ _ (by omega), g2.i _ _ (by omega), g1.i _ _ (by omega)]; exact u4
    · have a1 : N1.i 20 13 = zn (C.ne + i) := by rw [g1.i _ _ (by omega)]; exact i13
      have a2 : N2.i 20 13 = zn (C.ne + i) := by rw [g2.i _ _ (by omega)]; exact a1
      have a3 : N3.i 20 13 = zn (C.ne + i) := by rw [g3.i _ _ (by omega)]; exact a2
      have a4 : N4.i 20 13 = zn (C.ne + i) := by rw [g4.i _ _ (by omega)]; exact a3
      have b1 : N1.i 47 (C.ne + i) = zn (F i).2.1 := by rw [g1.i _ _ (by omega)]; exact p2
      have b2 : N2.i 48 (C.ne + i) = zn (F i).2.2.1 := by rw [g2.i _ _ (by omega), g1.i _ _ (by omega)]; exact p3
      have b3 : N3.i 49 (C.ne + i) = zn (F i).2.2.2 := by rw [g3.i _ _ (by omega), g2.i _ _ (by omega), g1.i _ _ (by omega)]; exact p4
      show x_errands_L83 c5 Kc (nn + 1) M2 = x_errands_L83 c5 Kc nn M5
      rw [x_errands_L83, i24, i13, if_neg (by rw [zn_le (by omega) (by omega)]; omega), ck_zn (by omega) (by omega), ck_zn (by omega) (by omega), ix_zn (by omega), p1, lt_u, ← hN1, a1, ck_zn (by omega) (by omega), ck_zn (by omega) (by omega), ix_zn (by omega), b1, lt_u, ← hN2, a2, ck_zn (by omega) (by omega), ck_zn (by omega) (by omega), ix_zn (by omega), b2, lt_u, ← hN3, a3, ck_zn (by omega) (by omega), ck_zn (by omega) (by omega), ix_zn (by omega), b3, lt_u, ← hN4, a4, zn_addl, lt_u, ← hM5]
  · obtain ⟨f, i13, v⟩ := hI
    have i24 : M2.i 20 24 = zn (C.ne + k) := (f.i _ _ (by unfold cec; omega)).trans h24
    refine ⟨M2, ?_, f, i13, v⟩
    show x_errands_L83 c5 Kc (nn + 1) M2 = _
    rw [x_errands_L83, i24, i13, if_pos (Int32.le_refl _)]
  · rw [err_who, err_em, err_wh, err_wo]
    have he' : e < C.ne := he
    rw [erN_out he', erN_out he', erN_out he', erN_out he']
    exact hv e he'
theorem ms_layE (hk : C.ne + k ≤ 8) (h7 : M.i 72 7 = zn C.ne) (hr : ∀ i, i < k → M.i 82 (4 * i) = zn (F i).1 ∧ M.i 82 (4 * i + 1) = zn (F i).2.1 ∧ M.i 82 (4 * i + 2) = zn (F i).2.2.1 ∧ M.i 82 (4 * i + 3) = zn (F i).2.2.2) (hv : ∀ e, e < C.ne → M.i 77 (4 * e + 0) = zn (C.who e) ∧ M.i 77 (4 * e + 1) = zn (C.em e) ∧ M.i 77 (4 * e + 2) = zn (C.wh e) ∧ M.i 77 (4 * e + 3) = zn (C.wo e)) (Kc : PM → Option (Int32 × PM)) : ∃ M', m_errands_L163 (zn k) Kc FU 0 M = Kc M' ∧ Fq ced M M' ∧ ∀ e, e < C.ne + k → M'.i 77 (4 * e + 0) = zn ((C.err k F).who e) ∧ M'.i 77 (4 * e + 1) = zn ((C.err k F).em e) ∧ M'.i 77 (4 * e + 2) = zn ((C.err k F).wh e) ∧ M'.i 77 (4 * e + 3) = zn ((C.err k F).wo e) := by
  have hq : ∃ M', m_errands_L163 (zn k) Kc FU 0 M = Kc M' ∧ Fq ced M M' ∧ ∀ j, M'.i 77 j = if 4 * C.ne ≤ j ∧ j < 4 * C.ne + 4 * k then M.i 82 (j - 4 * C.ne) else M.i 77 j := by
    refine wlp (fun nn i (_ : Unit) M2 => m_errands_L163 (zn k) Kc nn (zn i) M2) (4 * k) FU (FU_lt (by omega)) (fun _ s => s) () (fun i M2 => Fq ced M M2 ∧ ∀ j, M2.i 77 j = if 4 * C.ne ≤ j ∧ j < 4 * C.ne + i then M.i 82 (j - 4 * C.ne) else M.i 77 j) (fun o => ∃ M', o = Kc M' ∧ Fq ced M M' ∧ ∀ j, M'.i 77 j = if 4 * C.ne ≤ j ∧ j < 4 * C.ne + 4 * k then M.i 82 (j - 4 * C.ne) else M.i 77 j) (fun nn i M2 hi hI => ?_) (fun nn M2 hI => ?_) M ⟨Fq.rf, fun j => by rw [if_neg (by omega)]⟩
    · obtain ⟨f, v⟩ := hI
      have i7 : M2.i 72 7 = zn C.ne := (f.i _ _ (by unfold ced; omega)).trans h7
      have p1 : M2.i 82 i = M.i 82 i := f.i _ _ (by unfold ced; omega)
      have e1 : (4 : Int32) * zn k = zn (4 * k) := zn_mull k 4
      have e2 : (4 : Int32) * zn C.ne = zn (4 * C.ne) := zn_mull _ 4
      obtain ⟨M5, hM5⟩ : ∃ M5, M5 = M2.si 77 (4 * C.ne + i) (M.i 82 i) := ⟨_, rfl⟩
      have f5 : Fq ced M2 M5 := by rw [hM5]; exact Fq.si (c := ced) Fq.rf rfl
      refine ⟨M5, ⟨f.tr f5, fun j => ?_⟩, ?_⟩
      · rw [hM5, si_i]
        by_cases q : j = 4 * C.ne + i
        · rw [if_pos ⟨rfl, q⟩, if_pos (by omega), show j - 4 * C.ne = i by omega]
        · rw [if_neg (by omega), v j]
          by_cases q2 : 4 * C.ne ≤ j ∧ j < 4 * C.ne + i
          · rw [if_pos q2, if_pos (by omega)]
          · rw [if_neg q2, if_neg (by omega)]
      · show m_errands_L163 (zn k) Kc (nn + 1) (zn i) M2 = m_errands_L163 (zn k) Kc nn (zn (i + 1)) M5
        rw [m_errands_L163, e1, if_neg (by rw [zn_le (by omega) (by omega)]; omega), i7, e2, zn_add, ck_zn (by omega) (by omega), ck_zn (by omega) (by omega), ix_zn (by omega), ix_zn (by omega), p1, lt_u, ← hM5, zn_addl, lt_u]
    · obtain ⟨f, v⟩ := hI
      have e1 : (4 : Int32) * zn k = zn (4 * k) := zn_mull k 4
      refine ⟨M2, ?_, f, v⟩
      show m_errands_L163 (zn k) Kc (nn + 1) (zn (4 * k)) M2 = _
      rw [m_errands_L163, e1, if_pos (Int32.le_refl _)]
  obtain ⟨M', e1, f1, v⟩ := hq
  refine ⟨M', e1, f1, fun e he => ?_⟩
  rw [err_who, err_em, err_wh, err_wo]
  rw [v, v, v, v]
  by_cases q : e < C.ne
  · rw [if_neg (by omega), if_neg (by omega), if_neg (by omega), if_neg (by omega), erN_out q, erN_out q, erN_out q, erN_out q]
    exact hv e q
  · obtain ⟨i, rfl⟩ : ∃ i, e = C.ne + i := ⟨e - C.ne, by omega⟩
    have hi : i < k := by omega
    rw [if_pos (by omega), if_pos (by omega), if_pos (by omega), if_pos (by omega), erN_in hi, erN_in hi, erN_in hi, erN_in hi, show 4 * (C.ne + i) + 0 - 4 * C.ne = 4 * i by omega, show 4 * (C.ne + i) + 1 - 4 * C.ne = 4 * i + 1 by omega, show 4 * (C.ne + i) + 2 - 4 * C.ne = 4 * i + 2 by omega, show 4 * (C.ne + i) + 3 - 4 * C.ne = 4 * i + 3 by omega]
    exact hr i hi
end
