set_option maxRecDepth 100000
section
variable {C : SV} {M : PM} {ra : Nat} {f g : Nat → Int32}
theorem zn_s1 (i : Nat) : zn (i + 1) - 1 = zn i := by rw [show (1 : Int32) = zn 1 from rfl, zn_sub (by omega), Nat.add_sub_cancel]
theorem zn_7 (i j : Nat) : (7 : Int32) * zn i + zn j = zn (7 * i + j) := by rw [zn_mull, zn_add]
/-- one row of the table -/
theorem xs_edIn {n m i : Nat} (hn : n ≤ 6) (hm : m ≤ 6) (hi : i ≤ n) (h1 : ∀ x, x < n → M.i 61 x = f x) (h2 : ∀ x, x < m → M.i 62 x = g x) (hp : ∀ i' j', i' < i → j' ≤ m → M.i 63 (7 * i' + j') = edt f g i' j') (c4 : Int32) (Kc : PM → Option (Int32 × PM)) :
    ∃ M', x_changesOf_L41 c4 (zn m) 7 (zn i) Kc FU 0 M = Kc M' ∧ Fq (fun o _ => o = 63) M M' ∧ ∀ i' j', i' < i + 1 → j' ≤ m → M'.i 63 (7 * i' + j') = edt f g i' j' := by
  refine wlp (fun nn j (_ : Unit) M2 => x_changesOf_L41 c4 (zn m) 7 (zn i) Kc nn (zn j) M2) (m + 1) FU (FU_lt (by omega)) (fun _ s => s) () (fun j M2 => Fq (fun o _ => o = 63) M M2 ∧ (∀ i' j', i' < i → j' ≤ m → M2.i 63 (7 * i' + j') = edt f g i' j') ∧ ∀ j', j' < j → M2.i 63 (7 * i + j') = edt f g i j') (fun o => ∃ M', o = Kc M' ∧ Fq (fun o _ => o = 63) M M' ∧ ∀ i' j', i' < i + 1 → j' ≤ m → M'.i 63 (7 * i' + j') = edt f g i' j') (fun nn j M2 hj hI => ?_) (fun nn M2 hI => ?_) M ⟨Fq.rf, hp, fun j' q => absurd q (Nat.not_lt_zero j')⟩
  · obtain ⟨fq, i1, i2⟩ := hI
    refine ⟨M2.si 63 (7 * i + j) (edt f g i j), ⟨Fq.si (c := fun o _ => o = 63) fq rfl, fun i' j' a1 a2 => ?_, fun j' a1 => ?_⟩, ?_⟩
    · rw [si_i, if_neg (by omega)]; exact i1 i' j' a1 a2
    · rw [si_i]
      by_cases e : j' = j
      · rw [if_pos ⟨rfl, by omega⟩, e]
      · rw [if_neg (by omega)]; exact i2 j' (by omega)
    · show x_changesOf_L41 c4 (zn m) 7 (zn i) Kc (nn + 1) (zn j) M2 = x_changesOf_L41 c4 (zn m) 7 (zn i) Kc nn (zn (j + 1)) _
      (rw [x_changesOf_L41, if_neg (by rw [zn_lt (by omega) (by omega)]; omega), lt_u]; (try simp only [jn_u]))
      rcases Nat.eq_zero_or_pos i with e | e
      · rw [if_pos (by rw [zn_le_l (by omega) (by omega)]; omega), zn_7, zn_add, ck_zn (by omega) (by omega), ix_zn (by omega), lt_u, lt_u, zn_addl]
        subst e
        rw [show edt f g 0 j = zn (0 + j) from by rw [Nat.zero_add]; rfl]
      · obtain ⟨i, rfl⟩ : ∃ q, i = q + 1 := ⟨i - 1, by omega⟩
        rw [if_neg (by rw [zn_le_l (by omega) (by omega)]; omega)]
        rcases Nat.eq_zero_or_pos j with e | e
        · rw [if_pos (by rw [zn_le_l (by omega) (by omega)]; omega), zn_7, zn_add, ck_zn (by omega) (by omega), ix_zn (by omega), lt_u, lt_u, zn_addl]
          subst e
          rfl
        · obtain ⟨j, rfl⟩ : ∃ q, j = q + 1 := ⟨j - 1, by omega⟩
          have c1 := i1 i j (by omega) (by omega)
          have c2 := i1 i (j + 1) (by omega) (by omega)
          have c3 := i2 j (by omega)
          have r1 : M2.i 61 i = f i := (fq.i _ _ (by omega)).trans (h1 i (by omega))
          have r2 : M2.i 62 j = g j := (fq.i _ _ (by omega)).trans (h2 j (by omega))
          rw [if_neg (by rw [zn_le_l (by omega) (by omega)]; omega), edt_ss, zn_s1, zn_s1, zn_7, zn_7, show 7 * i + (j + 1) = 7 * i + j + 1 from rfl, show 7 * (i + 1) + (j + 1) = 7 * (i + 1) + j + 1 from rfl, zn_s1, zn_s1]
          have c2' : M2.i 63 (7 * i + j + 1) = edt f g i (j + 1) := c2
          rw [ck_zn (by omega) (by omega), ck_zn (by omega) (by omega), ck_zn (by omega) (by omega), lt_u, lt_u, ck_zn (by omega) (by omega), ck_zn (by omega) (by omega), lt_u]
          simp (disch := omega) only [ix_zn, r1, r2, c1, c2', c3, ck_zn, lt_u, zn_addl]
  · obtain ⟨fq, i1, i2⟩ := hI
    refine ⟨M2, ?_, fq, fun i' j' a1 a2 => ?_⟩
    · show x_changesOf_L41 c4 (zn m) 7 (zn i) Kc (nn + 1) (zn (m + 1)) M2 = _
      rw [x_changesOf_L41, if_pos (by rw [zn_lt (by omega) (by omega)]; omega)]
    · rcases Nat.lt_or_eq_of_le (Nat.le_of_lt_succ a1) with q | q
      · exact i1 i' j' q a2
      · rw [q]; exact i2 j' (by omega)
theorem ms_edIn {n m i : Nat} (hn : n ≤ 6) (hm : m ≤ 6) (hi : i ≤ n) (h1 : ∀ x, x < n → M.i 91 x = f x) (h2 : ∀ x, x < m → M.i 92 x = g x) (hp : ∀ i' j', i' < i → j' ≤ m → M.i 93 (7 * i' + j') = edt f g i' j') (c1 : Int32) (Kc : PM → Option (Int32 × PM)) :
    ∃ M', m_changesOf_L15 c1 (zn m) 7 (zn i) Kc FU 0 M = Kc M' ∧ Fq (fun o _ => o = 93) M M' ∧ ∀ i' j', i' < i + 1 → j' ≤ m → M'.i 93 (7 * i' + j') = edt f g i' j' := by
  refine wlp (fun nn j (_ : Unit) M2 => m_changesOf_L15 c1 (zn m) 7 (zn i) Kc nn (zn j) M2) (m + 1) FU (FU_lt (by omega)) (fun _ s => s) () (fun j M2 => Fq (fun o _ => o = 93) M M2 ∧ (∀ i' j', i' < i → j' ≤ m → M2.i 93 (7 * i' + j') = edt f g i' j') ∧ ∀ j', j' < j → M2.i 93 (7 * i + j') = edt f g i j') (fun o => ∃ M', o = Kc M' ∧ Fq (fun o _ => o = 93) M M' ∧ ∀ i' j', i' < i + 1 → j' ≤ m → M'.i 93 (7 * i' + j') = edt f g i' j') (fun nn j M2 hj hI => ?_) (fun nn M2 hI => ?_) M ⟨Fq.rf, hp, fun j' q => absurd q (Nat.not_lt_zero j')⟩
  · obtain ⟨fq, i1, i2⟩ := hI
    refine ⟨M2.si 93 (7 * i + j) (edt f g i j), ⟨Fq.si (c := fun o _ => o = 93) fq rfl, fun i' j' a1 a2 => ?_, fun j' a1 => ?_⟩, ?_⟩
    · rw [si_i, if_neg (by omega)]; exact i1 i' j' a1 a2
    · rw [si_i]
      by_cases e : j' = j
      · rw [if_pos ⟨rfl, by omega⟩, e]
      · rw [if_neg (by omega)]; exact i2 j' (by omega)
    · show m_changesOf_L15 c1 (zn m) 7 (zn i) Kc (nn + 1) (zn j) M2 = m_changesOf_L15 c1 (zn m) 7 (zn i) Kc nn (zn (j + 1)) _
      (rw [m_changesOf_L15, if_neg (by rw [zn_lt (by omega) (by omega)]; omega)]; (try simp only [jn_u]))
      rcases Nat.eq_zero_or_pos i with e | e
      · rw [if_pos (by rw [zn_eq_l (by omega) (by omega)]; omega), zn_7, zn_add, ck_zn (by omega) (by omega), ix_zn (by omega), lt_u, lt_u, zn_addl]
        subst e
        rw [show edt f g 0 j = zn (0 + j) from by rw [Nat.zero_add]; rfl]
      · obtain ⟨i, rfl⟩ : ∃ q, i = q + 1 := ⟨i - 1, by omega⟩
        rw [if_neg (by rw [zn_eq_l (by omega) (by omega)]; omega)]
        rcases Nat.eq_zero_or_pos j with e | e
        · rw [if_pos (by rw [zn_eq_l (by omega) (by omega)]; omega), zn_7, zn_add, ck_zn (by omega) (by omega), ix_zn (by omega), lt_u, lt_u, zn_addl]
          subst e
          rfl
        · obtain ⟨j, rfl⟩ : ∃ q, j = q + 1 := ⟨j - 1, by omega⟩
          have c1 := i1 i j (by omega) (by omega)
          have c2 := i1 i (j + 1) (by omega) (by omega)
          have c3 := i2 j (by omega)
          have r1 : M2.i 91 i = f i := (fq.i _ _ (by omega)).trans (h1 i (by omega))
          have r2 : M2.i 92 j = g j := (fq.i _ _ (by omega)).trans (h2 j (by omega))
          rw [if_neg (by rw [zn_eq_l (by omega) (by omega)]; omega), edt_ss, zn_s1, zn_s1, zn_7, zn_7, show 7 * i + (j + 1) = 7 * i + j + 1 from rfl, show 7 * (i + 1) + (j + 1) = 7 * (i + 1) + j + 1 from rfl, zn_s1, zn_s1]
          have c2' : M2.i 93 (7 * i + j + 1) = edt f g i (j + 1) := c2
          rw [ck_zn (by omega) (by omega), ck_zn (by omega) (by omega), ck_zn (by omega) (by omega), lt_u, lt_u, ck_zn (by omega) (by omega), ck_zn (by omega) (by omega), ck_zn (by omega) (by omega), lt_u, Int32.add_comm 1]
          simp (disch := omega) only [ix_zn, r1, r2, c1, c2', c3, ck_zn, lt_u, zn_addl]
  · obtain ⟨fq, i1, i2⟩ := hI
    refine ⟨M2, ?_, fq, fun i' j' a1 a2 => ?_⟩
    · show m_changesOf_L15 c1 (zn m) 7 (zn i) Kc (nn + 1) (zn (m + 1)) M2 = _
      rw [m_changesOf_L15, if_pos (by rw [zn_lt (by omega) (by omega)]; omega)]
    · rcases Nat.lt_or_eq_of_le (Nat.le_of_lt_succ a1) with q | q
      · exact i1 i' j' q a2
      · rw [q]; exact i2 j' (by omega)
theorem xs_changesOf (h : CX C M) {a b : Nat} (ha : a < C.nw) (hb : b < C.nw) (vb : Bool) : ∃ M', x_changesOf (zn a) (zn b) (bo vb) M = some (edd C a b vb, M') ∧ Fq ca M M' := by
  have n6 := rwL_6 h.ok ha vb
  have m6 := rwL_6 h.ok hb vb
  obtain ⟨M1, e1, f1, v1⟩ := xs_laysRow h ha (Or.inl rfl) vb
  have fc1 : Fq ca M M1 := f1.mo (d := ca) (fun o j q => by unfold ca; omega)
  have h1 := h.fa fc1
  obtain ⟨M2, e2, f2, v2⟩ := xs_laysRow h1 hb (Or.inr rfl) vb
  have fc2 : Fq ca M M2 := fc1.tr (f2.mo (d := ca) (fun o j q => by unfold ca; omega))
  have w1 : ∀ x, x < rwL C a vb → M2.i 61 x = rwF C a vb x := fun x hx => (f2.i _ _ (by omega)).trans (v1 x hx)
  generalize hn : rwL C a vb = n at *
  generalize hm : rwL C b vb = m at *
  unfold x_changesOf
  rw [bde e1, bde e2]
  have := wlp (fun nn i (_ : Unit) M3 => x_changesOf_L31 (zn n) (zn m) 7 (fun (M8 : PM) => ck ((7 * zn n) + zn m) 49 <| some ((M8.i 63 (ix ((7 * zn n) + zn m))), M8)) nn (zn i) M3) (n + 1) FU (FU_lt (by omega)) (fun _ s => s) () (fun i M3 => Fq (fun o _ => o = 63) M2 M3 ∧ ∀ i' j', i' < i → j' ≤ m → M3.i 63 (7 * i' + j') = edt (rwF C a vb) (rwF C b vb) i' j') (fun o => ∃ M', o = some (edd C a b vb, M') ∧ Fq (fun o _ => o = 63) M2 M') (fun nn i M3 hi hI => ?_) (fun nn M3 hI => ?_) M2 ⟨Fq.rf, fun i' j' q => absurd q (Nat.not_lt_zero i')⟩
  · obtain ⟨M', e', f'⟩ := this
    exact ⟨M', e', fc2.tr (f'.mo (d := ca) (fun o j q => by unfold ca; omega))⟩
  · obtain ⟨fq, i1⟩ := hI
    obtain ⟨M4, e4, f4, i4⟩ := xs_edIn (f := rwF C a vb) (g := rwF C b vb) n6 m6 (show i ≤ n by omega) (fun x hx => (fq.i _ _ (by omega)).trans (w1 x hx)) (fun x hx => (fq.i _ _ (by omega)).trans (v2 x hx)) i1 (zn n) (fun (M7 : PM) => lt (zn i + 1) fun v11 => x_changesOf_L31 (zn n) (zn m) 7 (fun (M8 : PM) => ck ((7 * zn n) + zn m) 49 <| some ((M8.i 63 (ix ((7 * zn n) + zn m))), M8)) nn v11 M7)
    refine ⟨M4, ⟨fq.tr f4, i4⟩, ?_⟩
    show x_changesOf_L31 (zn n) (zn m) 7 _ (nn + 1) (zn i) M3 = x_changesOf_L31 (zn n) (zn m) 7 _ nn (zn (i + 1)) M4
    rw [x_changesOf_L31, if_neg (by rw [zn_lt (by omega) (by omega)]; omega), e4, lt_u, zn_addl]
  · obtain ⟨fq, i1⟩ := hI
    refine ⟨M3, ?_, fq⟩
    show x_changesOf_L31 (zn n) (zn m) 7 _ (nn + 1) (zn (n + 1)) M3 = _
    rw [x_changesOf_L31, if_pos (by rw [zn_lt (by omega) (by omega)]; omega), zn_7, ck_zn (by omega) (by omega), ix_zn (by omega), i1 n m (by omega) (by omega)]
    unfold edd
    rw [hn, hm]
theorem ms_differBy (h : CY ra C M) {a b : Nat} (ha : a < C.nw) (hb : b < C.nw) (vb : Bool) : ∃ M', m_differBy (zn a) (zn b) (bo vb) M = some (edd C a b vb, M') ∧ Fq ca M M' := by
  have n6 := rwL_6 h.ok ha vb
  have m6 := rwL_6 h.ok hb vb
  obtain ⟨M1, e1, f1, v1⟩ := ms_layWord h ha (Or.inl rfl) vb
  have fc1 : Fq ca M M1 := f1.mo (d := ca) (fun o j q => by unfold ca; omega)
  have h1 := h.fa fc1
  obtain ⟨M2, e2, f2, v2⟩ := ms_layWord h1 hb (Or.inr rfl) vb
  have fc2 : Fq ca M M2 := fc1.tr (f2.mo (d := ca) (fun o j q => by unfold ca; omega))
  have w1 : ∀ x, x < rwL C a vb → M2.i 91 x = rwF C a vb x := fun x hx => (f2.i _ _ (by omega)).trans (v1 x hx)
  generalize hn : rwL C a vb = n at *
  generalize hm : rwL C b vb = m at *
  unfold m_differBy m_changesOf
  rw [bde e1, bde e2]
  have := wlp (fun nn i (_ : Unit) M3 => m_changesOf_L6 (zn n) (zn m) 7 (fun (M8 : PM) => ck ((7 * zn n) + zn m) 49 <| some ((M8.i 93 (ix ((7 * zn n) + zn m))), M8)) nn (zn i) M3) (n + 1) FU (FU_lt (by omega)) (fun _ s => s) () (fun i M3 => Fq (fun o _ => o = 93) M2 M3 ∧ ∀ i' j', i' < i → j' ≤ m → M3.i 93 (7 * i' + j') = edt (rwF C a vb) (rwF C b vb) i' j') (fun o => ∃ M', o = some (edd C a b vb, M') ∧ Fq (fun o _ => o = 93) M2 M') (fun nn i M3 hi hI => ?_) (fun nn M3 hI => ?_) M2 ⟨Fq.rf, fun i' j' q => absurd q (Nat.not_lt_zero i')⟩
  · obtain ⟨M', e', f'⟩ := this
    refine ⟨M', ?_, fc2.tr (f'.mo (d := ca) (fun o j q => by unfold ca; omega))⟩
    exact (bde e' _).trans rfl
  · obtain ⟨fq, i1⟩ := hI
    obtain ⟨M4, e4, f4, i4⟩ := ms_edIn (f := rwF C a vb) (g := rwF C b vb) n6 m6 (show i ≤ n by omega) (fun x hx => (fq.i _ _ (by omega)).trans (w1 x hx)) (fun x hx => (fq.i _ _ (by omega)).trans (v2 x hx)) i1 (zn n) (fun (M7 : PM) => lt (zn i + 1) fun v11 => m_changesOf_L6 (zn n) (zn m) 7 (fun (M8 : PM) => ck ((7 * zn n) + zn m) 49 <| some ((M8.i 93 (ix ((7 * zn n) + zn m))), M8)) nn v11 M7)
    refine ⟨M4, ⟨fq.tr f4, i4⟩, ?_⟩
    show m_changesOf_L6 (zn n) (zn m) 7 _ (nn + 1) (zn i) M3 = m_changesOf_L6 (zn n) (zn m) 7 _ nn (zn (i + 1)) M4
    rw [m_changesOf_L6, if_neg (by rw [zn_lt (by omega) (by omega)]; omega), e4, lt_u, zn_addl]
  · obtain ⟨fq, i1⟩ := hI
    refine ⟨M3, ?_, fq⟩
    show m_changesOf_L6 (zn n) (zn m) 7 _ (nn + 1) (zn (n + 1)) M3 = _
    rw [m_changesOf_L6, if_pos (by rw [zn_lt (by omega) (by omega)]; omega), zn_7, ck_zn (by omega) (by omega), ix_zn (by omega), i1 n m (by omega) (by omega)]
    unfold edd
    rw [hn, hm]
end
