set_option maxRecDepth 100000
section
variable {C : SV} {A : Nat → Int32} {M M1 : PM} {k : Nat} {F : Nat → DW}
abbrev cwd (o j : Nat) : Prop := (74 ≤ o ∧ o ≤ 76) ∨ (o = 72 ∧ j = 2)
theorem shR_cwd : ∀ q ∈ shR, ¬ cwd q.1 q.2.1 := by decide +kernel
theorem ms_w99 {w i : Nat} (hw : w < 10) (hi : i < 10) (h2 : M.i 72 2 = zn w) (c1 : Int32) (Kc : PM → Option (Int32 × PM)) : ∃ M', m_words_L99 c1 (zn i) Kc FU 0 M = Kc M' ∧ Fq (fun o x => o = 74 ∧ 6 * w ≤ x ∧ x < 6 * w + 6) M M' ∧ ∀ j, j < 6 → M'.i 74 (6 * w + j) = (Int32.toInt8 (M.i 80 (6 * i + j))).toInt32 := by
  refine wlp (fun nn j (_ : Unit) M2 => m_words_L99 c1 (zn i) Kc nn (zn j) M2) 6 FU (FU_lt (by omega)) (fun _ s => s) () (fun j M2 => Fq (fun o x => o = 74 ∧ 6 * w ≤ x ∧ x < 6 * w + 6) M M2 ∧ ∀ x, x < j → M2.i 74 (6 * w + x) = (Int32.toInt8 (M.i 80 (6 * i + x))).toInt32) (fun o => ∃ M', o = Kc M' ∧ Fq (fun o x => o = 74 ∧ 6 * w ≤ x ∧ x < 6 * w + 6) M M' ∧ ∀ j, j < 6 → M'.i 74 (6 * w + j) = (Int32.toInt8 (M.i 80 (6 * i + j))).toInt32) (fun nn j M2 hj hI => ?_) (fun nn M2 hI => ?_) M ⟨Fq.rf, fun x q => absurd q (Nat.not_lt_zero x)⟩
  · obtain ⟨f, r⟩ := hI
    have i2 : M2.i 72 2 = zn w := (f.i _ _ (by omega)).trans h2
    have e80 : M2.i 80 (6 * i + j) = M.i 80 (6 * i + j) := f.i _ _ (by omega)
    refine ⟨M2.si 74 (6 * w + j) ((Int32.toInt8 (M.i 80 (6 * i + j))).toInt32), ⟨Fq.si (c := fun o x => o = 74 ∧ 6 * w ≤ x ∧ x < 6 * w + 6) f ⟨rfl, by omega, by omega⟩, fun x hx => ?_⟩, ?_⟩
    · rw [si_i]
      by_cases e : x = j
      · rw [if_pos ⟨rfl, by omega⟩, e]
      · rw [if_neg (by omega)]; exact r x (by omega)
    · show m_words_L99 c1 (zn i) Kc (nn + 1) (zn j) M2 = m_words_L99 c1 (zn i) Kc nn (zn (j + 1)) _
      rw [m_words_L99, if_neg (by rw [l_le_zn (by omega) (by omega)]; omega), i2, zn_mull, zn_mull, zn_add, zn_add, ck_zn (by omega) (by omega), ck_zn (by omega) (by omega), ix_zn (by omega), ix_zn (by omega), e80, lt_u, lt_u, zn_addl]
  · refine ⟨M2, ?_, hI.1, hI.2⟩
    show m_words_L99 c1 (zn i) Kc (nn + 1) (zn 6) M2 = _
    rw [m_words_L99, if_pos (by decide)]
/-- the reference lays them -/
theorem ms_layW (hC : OKC (C.wrd k F)) (hs : Sh M) (hk : C.nw + k ≤ 10) (h2 : M.i 72 2 = zn C.nw) (hr : rdY k F M) (ho : ∀ w, w < C.nw → rowY C w M) (Kc : PM → Option (Int32 × PM)) : ∃ M', m_words_L91 (zn k) Kc FU 0 M = Kc M' ∧ Fq cwd M M' ∧ M'.i 72 2 = zn (C.nw + k) ∧ ∀ w, w < C.nw + k → rowY (C.wrd k F) w M' := by
  refine wlp (fun nn i (_ : Unit) M2 => m_words_L91 (zn k) Kc nn (zn i) M2) k FU (FU_lt (by omega)) (fun _ s => s) () (fun i M2 => Fq cwd M M2 ∧ M2.i 72 2 = zn (C.nw + i) ∧ ∀ w, w < C.nw + i → rowY (C.wrd k F) w M2) (fun o => ∃ M', o = Kc M' ∧ Fq cwd M M' ∧ M'.i 72 2 = zn (C.nw + k) ∧ ∀ w, w < C.nw + k → rowY (C.wrd k F) w M') (fun nn i M2 hi hI => ?_) (fun nn M2 hI => ?_) M ⟨Fq.rf, h2, fun w hw => ?_⟩
  · obtain ⟨f, i2, rw0⟩ := hI
    obtain ⟨q0, q1, q2, q3, q4⟩ := hr i hi
    obtain ⟨n1, n2, n3, n4⟩ := wrd_n (C := C) (k := k) (F := F) i
    obtain ⟨w, hw⟩ : ∃ w, w = C.nw + i := ⟨_, rfl⟩
    have hw10 : w < 10 := by omega
    rw [← hw] at i2 n1 n2 n3 n4 rw0
    obtain ⟨M15, e15, f15, r15⟩ := ms_w99 (M := M2) (w := w) (i := i) hw10 (by omega) i2 (zn k) (fun (M15 : PM) => ck (zn i) 10 <| ck (M15.i 72 2) 10 <| lt (M15.si 75 (ix (M15.i 72 2)) (M15.i 81 (ix (zn i)))) fun M16 => ck (2 * zn i) 40 <| ck (2 * (M16.i 72 2)) 20 <| lt (M16.si 76 (ix (2 * (M16.i 72 2))) (M16.i 82 (ix (2 * zn i)))) fun M17 => ck ((2 * zn i) + 1) 40 <| ck ((2 * (M17.i 72 2)) + 1) 20 <| lt (M17.si 76 (ix ((2 * (M17.i 72 2)) + 1)) (M17.i 82 (ix ((2 * zn i) + 1)))) fun M18 => lt (M18.si 72 2 ((M18.i 72 2) + 1)) fun M19 => lt (zn i + 1) fun v11 => m_words_L91 (zn k) Kc nn v11 M19)
    have e2 : M15.i 72 2 = zn w := (f15.i _ _ (by omega)).trans i2
    obtain ⟨M16, hM16⟩ : ∃ M16, M16 = M15.si 75 w (M15.i 81 i) := ⟨_, rfl⟩
    have f16 : Fq (fun o x => o = 75 ∧ x = w) M15 M16 := by rw [hM16]; exact Fq.si (c := fun o x => o = 75 ∧ x = w) Fq.rf ⟨rfl, rfl⟩
    have e16 : M16.i 72 2 = zn w := (f16.i _ _ (by omega)).trans e2
    obtain ⟨M17, hM17⟩ : ∃ M17, M17 = M16.si 76 (2 * w) (M16.i 82 (2 * i)) := ⟨_, rfl⟩
    have f17 : Fq (fun o x => o = 76 ∧ x = 2 * w) M16 M17 := by rw [hM17]; exact Fq.si (c := fun o x => o = 76 ∧ x = 2 * w) Fq.rf ⟨rfl, rfl⟩
    have e17 : M17.i 72 2 = zn w := (f17.i _ _ (by omega)).trans e16
    obtain ⟨M18, hM18⟩ : ∃ M18, M18 = M17.si 76 (2 * w + 1) (M17.i 82 (2 * i + 1)) := ⟨_, rfl⟩
    have f18 : Fq (fun o x => o = 76 ∧ x = 2 * w + 1) M17 M18 := by rw [hM18]; exact Fq.si (c := fun o x => o = 76 ∧ x = 2 * w + 1) Fq.rf ⟨rfl, rfl⟩
    have e18 : M18.i 72 2 = zn w := (f18.i _ _ (by omega)).trans e17
    obtain ⟨M19, hM19⟩ : ∃ M19, M19 = M18.si 72 2 (zn (w + 1)) := ⟨_, rfl⟩
    have f19 : Fq (fun o x => o = 72 ∧ x = 2) M18 M19 := by rw [hM19]; exact Fq.si (c := fun o x => o = 72 ∧ x = 2) Fq.rf ⟨rfl, rfl⟩
    refine ⟨M19, ⟨((((f.tr (f15.mo (d := cwd) (fun o x w => by unfold cwd; omega))).tr (f16.mo (d := cwd) (fun o x w => by unfold cwd; omega))).tr (f17.mo (d := cwd) (fun o x w => by unfold cwd; omega))).tr (f18.mo (d := cwd) (fun o x w => by unfold cwd; omega))).tr (f19.mo (d := cwd) (fun o x w => Or.inr w)), ?_, fun v hv => ?_⟩, ?_⟩
    · rw [hM19, si_i, if_pos ⟨rfl, rfl⟩, hw]; rfl
    · by_cases e : v = w
      · rw [e]
        unfold rowY
        rw [n1, n2, n3]
        refine ⟨?_, ?_, ?_, fun j hj => ?_⟩
        · rw [f19.i _ _ (by omega), f18.i _ _ (by omega), f17.i _ _ (by omega), hM16, si_i, if_pos ⟨rfl, rfl⟩, f15.i _ _ (by omega), f.i _ _ (by unfold cwd; omega)]; exact q3
        · rw [f19.i _ _ (by omega), f18.i _ _ (by omega), hM17, si_i, if_pos ⟨rfl, rfl⟩, f16.i _ _ (by omega), f15.i _ _ (by omega), f.i _ _ (by unfold cwd; omega)]; exact q1
        · rw [f19.i _ _ (by omega), hM18, si_i, if_pos ⟨rfl, rfl⟩, f17.i _ _ (by omega), f16.i _ _ (by omega), f15.i _ _ (by omega), f.i _ _ (by unfold cwd; omega)]; exact q2
        · have hj6 : j < 6 := by have := q0.2.2.1.2; omega
          have h26 := q0.2.2.2 j hj
          have e80 : M2.i 80 (6 * i + j) = zn ((F i).2.2.2 j) := (f.i _ _ (by unfold cwd; omega)).trans (q4 j hj)
          have r80 := r15 j hj6
          rw [e80] at r80
          rw [n4, f19.i _ _ (by omega), f18.i _ _ (by omega), f17.i _ _ (by omega), f16.i _ _ (by omega), r80]
          exact b8_low _ (by omega)
      · have hvw : v < w := by omega
        obtain ⟨u1, u2, u3, u4⟩ := rw0 v hvw
        refine ⟨?_, ?_, ?_, fun j hj => ?_⟩
        · rw [f19.i _ _ (by omega), f18.i _ _ (by omega), f17.i _ _ (by omega), f16.i _ _ (by omega), f15.i _ _ (by omega)]; exact u1
        · rw [f19.i _ _ (by omega), f18.i _ _ (by omega), f17.i _ _ (by omega), f16.i _ _ (by omega), f15.i _ _ (by omega)]; exact u2
        · rw [f19.i _ _ (by omega), f18.i _ _ (by omega), f17.i _ _ (by omega), f16.i _ _ (by omega), f15.i _ _ (by omega)]; exact u3
        · have u5 := u4 j hj
          have hl : (C.wrd k F).len v ≤ 6 := hC.len6 v (show v < C.nw + k by omega)
          rw [f19.i _ _ (by omega), f18.i _ _ (by omega), f17.i _ _ (by omega), f16.i _ _ (by omega), f15.i _ _ (by omega)]; exact u5
    · show m_words_L91 (zn k) Kc (nn + 1) (zn i) M2 = m_words_L91 (zn k) Kc nn (zn (i + 1)) M19
      rw [m_words_L91, if_neg (by rw [zn_le (by omega) (by omega)]; omega), e15, ck_zn (by omega) (by omega), e2, ck_zn (by omega) (by omega), ix_zn (by omega), ix_zn (by omega), lt_u, ← hM16, e16, zn_mull, zn_mull, ck_zn (by omega) (by omega), ck_zn (by omega) (by omega), ix_zn (by omega), ix_zn (by omega), lt_u, ← hM17, e17, zn_mull, zn_addl, zn_addl, ck_zn (by omega) (by omega), ck_zn (by omega) (by omega), ix_zn (by omega), ix_zn (by omega), lt_u, ← hM18, e18, zn_addl, lt_u, ← hM19, lt_u, zn_addl]
  · obtain ⟨f, i2, rw0⟩ := hI
    refine ⟨M2, ?_, f, i2, rw0⟩
    show m_words_L91 (zn k) Kc (nn + 1) (zn k) M2 = _
    rw [m_words_L91, if_pos (Int32.le_refl _)]
  · have hw' : w < C.nw := hw
    obtain ⟨w1, w2, w3, w4⟩ := wrd_o (C := C) (k := k) (F := F) hw'
    obtain ⟨u1, u2, u3, u4⟩ := ho w hw'
    unfold rowY
    rw [w1, w2, w3]
    exact ⟨u1, u2, u3, fun j hj => by rw [w4]; exact u4 j hj⟩
end
