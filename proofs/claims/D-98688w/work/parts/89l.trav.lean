set_option maxRecDepth 100000
/-! TRAVELLERS: laid among the others -/
def SV.trv (C : SV) (k : Nat) : SV := ((C.ns, C.nw, C.nt + k, C.ne), C.2)
def trA (A : Nat → Int32) (n0 k : Nat) (F : Nat → DT) : Nat → Int32 := fun j => if n0 ≤ j ∧ j < n0 + k then zn (F (j - n0)).1 else if 4 + n0 ≤ j ∧ j < 4 + n0 + k then zn (F (j - (4 + n0))).2 else if 8 + n0 ≤ j ∧ j < 8 + n0 + k then 0 else A j
section
variable {C : SV} {A : Nat → Int32} {M M1 : PM} {k : Nat} {F : Nat → DT}
theorem trA_0 (A : Nat → Int32) (n0 : Nat) (F : Nat → DT) (j : Nat) : trA A n0 0 F j = A j := by
  unfold trA
  rw [if_neg (by omega), if_neg (by omega), if_neg (by omega)]
theorem trA_s (A : Nat → Int32) {n0 k : Nat} (h : n0 + k < 4) (F : Nat → DT) (j : Nat) : trA A n0 (k + 1) F j = if j = n0 + k then zn (F k).1 else if j = 4 + (n0 + k) then zn (F k).2 else if j = 8 + (n0 + k) then 0 else trA A n0 k F j := by
  unfold trA
  by_cases e1 : j = n0 + k
  · rw [if_pos e1, if_pos (by omega), e1, Nat.add_sub_cancel_left]
  · rw [if_neg e1]
    by_cases e2 : j = 4 + (n0 + k)
    · rw [if_pos e2, if_neg (by omega), if_pos (by omega), show j - (4 + n0) = k by omega]
    · rw [if_neg e2]
      by_cases e3 : j = 8 + (n0 + k)
      · rw [if_pos e3, if_neg (by omega), if_neg (by omega), if_pos (by omega)]
      · rw [if_neg e3]
        by_cases g1 : n0 ≤ j ∧ j < n0 + k
        · rw [if_pos g1, if_pos (by omega)]
        · rw [if_neg g1, if_neg (by omega)]
          by_cases g2 : 4 + n0 ≤ j ∧ j < 4 + n0 + k
          · rw [if_pos g2, if_pos (by omega)]
          · rw [if_neg g2, if_neg (by omega)]
            by_cases g3 : 8 + n0 ≤ j ∧ j < 8 + n0 + k
            · rw [if_pos g3, if_pos (by omega)]
            · rw [if_neg g3, if_neg (by omega)]
theorem ok_trv (h : OKC C) (hk : C.nt + k ≤ 4) : OKC (C.trv k) := by
  obtain ⟨a, b, c, d, e, f, g⟩ := h
  refine ⟨a, b, hk, d, e, fun x hx => ?_, g⟩
  obtain ⟨f1, f2⟩ := f x hx
  exact ⟨Nat.lt_of_lt_of_le f1 (Nat.le_add_right _ _), f2⟩
theorem oka_trv (h : OKA C A) (hC : OKC C) (hk : C.nt + k ≤ 4) (hF : ∀ i, i < k → okT C.ns (F i)) : OKA (C.trv k) (trA A C.nt k F) := by
  refine ⟨fun t ht => ?_, ?_, fun t ht => ?_⟩
  · have ht' : t < C.nt + k := ht
    unfold trA
    by_cases e : t < C.nt
    · rw [if_neg (by omega), if_neg (by omega), if_neg (by omega)]; exact h.1 t e
    · rw [if_pos (by omega)]
      exact ⟨_, (hF (t - C.nt) (by omega)).1, rfl⟩
  · unfold trA
    rw [if_neg (by omega), if_neg (by omega), if_neg (by omega)]; exact h.2.1
  · have ht' : t < C.nt + k := ht
    unfold trA
    by_cases e : t < C.nt
    · rw [if_neg (by omega), if_neg (by omega), if_neg (by omega)]; exact h.2.2 t e
    · rw [if_neg (by omega), if_pos (by omega)]
      exact ⟨_, by have := (hF (4 + t - (4 + C.nt)) (by omega)).2; omega, rfl⟩
abbrev ctc (o j : Nat) : Prop := (22 ≤ o ∧ o ≤ 24) ∨ (o = 20 ∧ j = 12)
abbrev ctd (o j : Nat) : Prop := o = 73 ∨ (o = 72 ∧ j = 6)
theorem xs_layT (hk : C.nt + k ≤ 4) (h12 : M.i 20 12 = zn C.nt) (h24 : M.i 20 24 = zn (C.nt + k)) (hr : ∀ i, i < k → M.i 44 (C.nt + i) = zn (F i).1 ∧ M.i 45 (C.nt + i) = zn (F i).2) (ha : RvX 21 A M) (c5 : Int32) (Kc : PM → Option (Int32 × PM)) : ∃ M', x_travellers_L83 c5 Kc FU M = Kc M' ∧ Fq ctc M M' ∧ M'.i 20 12 = zn (C.nt + k) ∧ RvX 21 (trA A C.nt k F) M' := by
  refine wlp (fun nn _ (_ : Unit) M2 => x_travellers_L83 c5 Kc nn M2) k FU (FU_lt (by omega)) (fun _ s => s) () (fun i M2 => Fq ctc M M2 ∧ M2.i 20 12 = zn (C.nt + i) ∧ RvX 21 (trA A C.nt i F) M2) (fun o => ∃ M', o = Kc M' ∧ Fq ctc M M' ∧ M'.i 20 12 = zn (C.nt + k) ∧ RvX 21 (trA A C.nt k F) M') (fun nn i M2 hi hI => ?_) (fun nn M2 hI => ?_) M ⟨Fq.rf, h12, ha.eq (fun j _ => (trA_0 _ _ _ _).symm)⟩
  · obtain ⟨f, i12, v1, v2, v3, v4⟩ := hI
    have i24 : M2.i 20 24 = zn (C.nt + k) := (f.i _ _ (by unfold ctc; omega)).trans h24
    obtain ⟨q1, q2⟩ := hr i hi
    have p1 : M2.i 44 (C.nt + i) = zn (F i).1 := (f.i _ _ (by unfold ctc; omega)).trans q1
    have p2 : M2.i 45 (C.nt + i) = zn (F i).2 := (f.i _ _ (by unfold ctc; omega)).trans q2
    obtain ⟨M5, hM5⟩ : ∃ M5, M5 = (((M2.si 22 (C.nt + i) (zn (F i).1)).si 23 (C.nt + i) (zn (F i).2)).si 24 (C.nt + i) 0).si 20 12 (zn (C.nt + i + 1)) := ⟨_, rfl⟩
    have f5 : Fq ctc M2 M5 := by
      rw [hM5]
      exact Fq.si (c := ctc) (Fq.si (c := ctc) (Fq.si (c := ctc) (Fq.si (c := ctc) Fq.rf (Or.inl (by omega))) (Or.inl (by omega))) (Or.inl (by omega))) (Or.inr ⟨rfl, rfl⟩)
    refine ⟨M5, ⟨f.tr f5, by rw [hM5, si_i, if_pos ⟨rfl, rfl⟩]; rfl, fun t ht => ?_, ?_, ?_, fun x hx => ?_⟩, ?_⟩
    · obtain ⟨u1, u2, u3⟩ := v1 t ht
      have z2 : ∀ j, M5.i 22 j = if j = C.nt + i then zn (F i).1 else M2.i 22 j := fun j => by
        rw [hM5, si_i, if_neg (by omega), si_i, if_neg (by omega), si_i, if_neg (by omega), si_i]
        by_cases e : j = C.nt + i
        · rw [if_pos ⟨rfl, e⟩, if_pos e]
        · rw [if_neg (by omega), if_neg e]
      have z3 : ∀ j, M5.i 23 j = if j = C.nt + i then zn (F i).2 else M2.i 23 j := fun j => by
        rw [hM5, si_i, if_neg (by omega), si_i, if_neg (by omega), si_i]
        by_cases e : j = C.nt + i
        · rw [if_pos ⟨rfl, e⟩, if_pos e]
        · rw [if_neg (by omega), if_neg e, si_i, if_neg (by omega)]
      have z4 : ∀ j, M5.i 24 j = if j = C.nt + i then 0 else M2.i 24 j := fun j => by
        rw [hM5, si_i, if_neg (by omega), si_i]
        by_cases e : j = C.nt + i
        · rw [if_pos ⟨rfl, e⟩, if_pos e]
        · rw [if_neg (by omega), if_neg e, si_i, if_neg (by omega), si_i, if_neg (by omega)]
      refine ⟨?_, ?_, ?_⟩
      · show M5.i 22 t = _
        rw [z2, trA_s A (by omega)]
        by_cases e : t = C.nt + i
        · rw [if_pos e, if_pos e]
        · rw [if_neg e, if_neg e, if_neg (by omega), if_neg (by omega)]; exact u1
      · show M5.i 23 t = _
        rw [z3, trA_s A (by omega)]
        by_cases e : t = C.nt + i
        · rw [if_pos e, if_neg (by omega), if_pos (by omega)]
        · rw [if_neg e, if_neg (by omega), if_neg (by omega), if_neg (by omega)]; exact u2
      · show M5.i 24 t = _
        rw [z4, trA_s A (by omega)]
        by_cases e : t = C.nt + i
        · rw [if_pos e, if_neg (by omega), if_neg (by omega), if_pos (by omega)]
        · rw [if_neg e, if_neg (by omega), if_neg (by omega), if_neg (by omega)]; exact u3
    · rw [trA_s A (by omega), if_neg (by omega), if_neg (by omega), if_neg (by omega), f5.i _ _ (by unfold ctc; omega)]; exact v2
    · rw [trA_s A (by omega), if_neg (by omega), if_neg (by omega), if_neg (by omega), f5.i _ _ (by unfold ctc; omega)]; exact v3
    · rw [trA_s A (by omega), if_neg (by omega), if_neg (by omega), if_neg (by omega), f5.i _ _ (by unfold ctc; omega)]; exact v4 x hx
    · have e1 : (M2.si 22 (C.nt + i) (zn (F i).1)).i 20 12 = zn (C.nt + i) := by rw [si_i, if_neg (by omega)]; exact i12
      have e2 : (M2.si 22 (C.nt + i) (zn (F i).1)).i 45 (C.nt + i) = zn (F i).2 := by rw [si_i, if_neg (by omega)]; exact p2
      have e3 : ((M2.si 22 (C.nt + i) (zn (F i).1)).si 23 (C.nt + i) (zn (F i).2)).i 20 12 = zn (C.nt + i) := by rw [si_i, if_neg (by omega)]; exact e1
      have e4 : (((M2.si 22 (C.nt + i) (zn (F i).1)).si 23 (C.nt + i) (zn (F i).2)).si 24 (C.nt + i) 0).i 20 12 = zn (C.nt + i) := by rw [si_i, if_neg (by omega)]; exact e3
      show x_travellers_L83 c5 Kc (nn + 1) M2 = x_travellers_L83 c5 Kc nn M5
      rw [x_travellers_L83, i24, i12, if_neg (by rw [zn_le (by omega) (by omega)]; omega), ck_zn (by omega) (by omega), ck_zn (by omega) (by omega), ix_zn (by omega), p1, lt_u, e1, ck_zn (by omega) (by omega), ck_zn (by omega) (by omega), ix_zn (by omega), e2, lt_u, e3, ck_zn (by omega) (by omega), ix_zn (by omega), lt_u, e4, zn_addl, lt_u, ← hM5]
  · obtain ⟨f, i12, v⟩ := hI
    have i24 : M2.i 20 24 = zn (C.nt + k) := (f.i _ _ (by unfold ctc; omega)).trans h24
    refine ⟨M2, ?_, f, i12, v⟩
    show x_travellers_L83 c5 Kc (nn + 1) M2 = _
    rw [x_travellers_L83, i24, i12, if_pos (Int32.le_refl _)]
theorem ms_layT (hk : C.nt + k ≤ 4) (h6 : M.i 72 6 = zn C.nt) (hr : ∀ i, i < k → M.i 82 (2 * i) = zn (F i).1 ∧ M.i 82 (2 * i + 1) = zn (F i).2) (ha : RvY 73 A M) (Kc : PM → Option (Int32 × PM)) : ∃ M', m_travellers_L124 (zn k) Kc FU 0 M = Kc M' ∧ Fq ctd M M' ∧ M'.i 72 6 = zn (C.nt + k) ∧ RvY 73 (trA A C.nt k F) M' := by
  refine wlp (fun nn i (_ : Unit) M2 => m_travellers_L124 (zn k) Kc nn (zn i) M2) k FU (FU_lt (by omega)) (fun _ s => s) () (fun i M2 => Fq ctd M M2 ∧ M2.i 72 6 = zn (C.nt + i) ∧ RvY 73 (trA A C.nt i F) M2) (fun o => ∃ M', o = Kc M' ∧ Fq ctd M M' ∧ M'.i 72 6 = zn (C.nt + k) ∧ RvY 73 (trA A C.nt k F) M') (fun nn i M2 hi hI => ?_) (fun nn M2 hI => ?_) M ⟨Fq.rf, h6, fun j hj => by rw [trA_0]; exact ha j hj⟩
  · obtain ⟨f, i6, v⟩ := hI
    obtain ⟨q1, q2⟩ := hr i hi
    have p1 : M2.i 82 (2 * i) = zn (F i).1 := (f.i _ _ (by unfold ctd; omega)).trans q1
    have p2 : M2.i 82 (2 * i + 1) = zn (F i).2 := (f.i _ _ (by unfold ctd; omega)).trans q2
    obtain ⟨M5, hM5⟩ : ∃ M5, M5 = (((M2.si 73 (C.nt + i) (zn (F i).1)).si 73 (4 + (C.nt + i)) (zn (F i).2)).si 73 (8 + (C.nt + i)) 0).si 72 6 (zn (C.nt + i + 1)) := ⟨_, rfl⟩
    have f5 : Fq ctd M2 M5 := by
      rw [hM5]
      exact Fq.si (c := ctd) (Fq.si (c := ctd) (Fq.si (c := ctd) (Fq.si (c := ctd) Fq.rf (Or.inl rfl)) (Or.inl rfl)) (Or.inl rfl)) (Or.inr ⟨rfl, rfl⟩)
    refine ⟨M5, ⟨f.tr f5, by rw [hM5, si_i, if_pos ⟨rfl, rfl⟩]; rfl, fun j hj => ?_⟩, ?_⟩
    · rw [hM5, si_i, if_neg (by omega), si_i, si_i, si_i, trA_s A (by omega)]
      by_cases e3 : j = 8 + (C.nt + i)
      · rw [if_pos ⟨rfl, e3⟩, if_neg (by omega), if_neg (by omega), if_pos e3]
      · rw [if_neg (by omega)]
        by_cases e2 : j = 4 + (C.nt + i)
        · rw [if_pos ⟨rfl, e2⟩, if_neg (by omega), if_pos e2]
        · rw [if_neg (by omega)]
          by_cases e1 : j = C.nt + i
          · rw [if_pos ⟨rfl, e1⟩, if_pos e1]
          · rw [if_neg (by omega), if_neg e1, if_neg e2, if_neg e3]; exact v j hj
    · have e1 : (M2.si 73 (C.nt + i) (zn (F i).1)).i 72 6 = zn (C.nt + i) := by rw [si_i, if_neg (by omega)]; exact i6
      have e2 : (M2.si 73 (C.nt + i) (zn (F i).1)).i 82 (2 * i + 1) = zn (F i).2 := by rw [si_i, if_neg (by omega)]; exact p2
      have e3 : ((M2.si 73 (C.nt + i) (zn (F i).1)).si 73 (4 + (C.nt + i)) (zn (F i).2)).i 72 6 = zn (C.nt + i) := by rw [si_i, if_neg (by omega)]; exact e1
      have e4 : (((M2.si 73 (C.nt + i) (zn (F i).1)).si 73 (4 + (C.nt + i)) (zn (F i).2)).si 73 (8 + (C.nt + i)) 0).i 72 6 = zn (C.nt + i) := by rw [si_i, if_neg (by omega)]; exact e3
      show m_travellers_L124 (zn k) Kc (nn + 1) (zn i) M2 = m_travellers_L124 (zn k) Kc nn (zn (i + 1)) M5
      rw [m_travellers_L124, if_neg (by rw [zn_le (by omega) (by omega)]; omega), i6, zn_mull, ck_zn (by omega) (by omega), ck_zn (by omega) (by omega), ix_zn (by omega), ix_zn (by omega), p1, lt_u, e1, zn_addl, zn_ladd, ck_zn (by omega) (by omega), ck_zn (by omega) (by omega), ix_zn (by omega), ix_zn (by omega), e2, lt_u, e3, zn_ladd, ck_zn (by omega) (by omega), ix_zn (by omega), lt_u, e4, zn_addl, lt_u, ← hM5, lt_u, zn_addl]
  · obtain ⟨f, i6, v⟩ := hI
    refine ⟨M2, ?_, f, i6, v⟩
    show m_travellers_L124 (zn k) Kc (nn + 1) (zn k) M2 = _
    rw [m_travellers_L124, if_pos (Int32.le_refl _)]
end
