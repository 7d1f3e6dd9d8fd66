set_option maxRecDepth 100000
/-! WORDS: laid among the others -/
def SV.wrd (C : SV) (k : Nat) (F : Nat → DW) : SV := ((C.ns, C.nw + k, C.nt, C.ne), ((fun w => if w < C.nw then C.len w else (F (w - C.nw)).2.2.1), (fun w j => if w < C.nw then C.lt w j else (F (w - C.nw)).2.2.2 j), (fun w => if w < C.nw then C.mn w else (F (w - C.nw)).1), (fun w => if w < C.nw then C.sc w else (F (w - C.nw)).2.1)), C.2.2)
def rowX (C : SV) (w : Nat) (M : PM) : Prop := M.i 32 w = zn (C.len w) ∧ M.i 33 w = zn (C.mn w) ∧ M.i 34 w = C.sc w ∧ ∀ k, k < C.len w → M.i 31 (6 * w + k) = zn (C.lt w k)
def rowY (C : SV) (w : Nat) (M : PM) : Prop := M.i 75 w = zn (C.len w) ∧ M.i 76 (2 * w) = zn (C.mn w) ∧ M.i 76 (2 * w + 1) = C.sc w ∧ ∀ k, k < C.len w → M.i 74 (6 * w + k) = zn (C.lt w k)
section
variable {C : SV} {A : Nat → Int32} {M M1 : PM} {k : Nat} {F : Nat → DW}
theorem wrd_o {w : Nat} (h : w < C.nw) : (C.wrd k F).len w = C.len w ∧ (C.wrd k F).mn w = C.mn w ∧ (C.wrd k F).sc w = C.sc w ∧ ∀ j, (C.wrd k F).lt w j = C.lt w j := ⟨if_pos h, if_pos h, if_pos h, fun j => if_pos h⟩
theorem wrd_n (i : Nat) : (C.wrd k F).len (C.nw + i) = (F i).2.2.1 ∧ (C.wrd k F).mn (C.nw + i) = (F i).1 ∧ (C.wrd k F).sc (C.nw + i) = (F i).2.1 ∧ ∀ j, (C.wrd k F).lt (C.nw + i) j = (F i).2.2.2 j := by
  have h : ¬ C.nw + i < C.nw := by omega
  have e : C.nw + i - C.nw = i := by omega
  refine ⟨?_, ?_, ?_, fun j => ?_⟩
  · show (if C.nw + i < C.nw then _ else (F (C.nw + i - C.nw)).2.2.1) = _
    rw [if_neg h, e]
  · show (if C.nw + i < C.nw then _ else (F (C.nw + i - C.nw)).1) = _
    rw [if_neg h, e]
  · show (if C.nw + i < C.nw then _ else (F (C.nw + i - C.nw)).2.1) = _
    rw [if_neg h, e]
  · show (if C.nw + i < C.nw then _ else (F (C.nw + i - C.nw)).2.2.2 j) = _
    rw [if_neg h, e]
theorem ok_wrd (h : OKC C) (hk : C.nw + k ≤ 10) (hF : ∀ i, i < k → okW (F i)) : OKC (C.wrd k F) := by
  obtain ⟨a, b, c, d, e, f, g⟩ := h
  refine ⟨a, hk, c, d, fun w hw => ?_, f, g⟩
  by_cases q : w < C.nw
  · obtain ⟨w1, w2, w3, w4⟩ := wrd_o (C := C) (k := k) (F := F) q
    rw [w1, w2, w3]
    obtain ⟨e1, e2, e3, e4⟩ := e w q
    exact ⟨e1, e2, e3, fun j hj => by rw [w4]; exact e4 j hj⟩
  · obtain ⟨i, rfl⟩ : ∃ i, w = C.nw + i := ⟨w - C.nw, by omega⟩
    have hi : i < k := by
      have : C.nw + i < C.nw + k := hw
      omega
    obtain ⟨w1, w2, w3, w4⟩ := wrd_n (C := C) (k := k) (F := F) i
    obtain ⟨e1, e2, e3, e4⟩ := hF i hi
    rw [w1, w2, w3]
    exact ⟨e3, e1, e2, fun j hj => by rw [w4]; exact e4 j hj⟩
theorem oka_wrd (h : OKA C A) : OKA (C.wrd k F) A := h
theorem ckc_w {α : Type} {d : Nat} {x : Option α} (h : Sh M) (hd : d + 6 ≤ 60) : ckc M 40 (zn d) 31 (zn d) 6 x = x := by
  unfold ckc
  rw [kd40 h, kd31 h]
  have en : ix 6 = 6 := ix_zn (k := 6) (by omega)
  refine if_pos ⟨⟨rfl, rfl⟩, ⟨?_, ?_, by decide⟩, ?_, ?_⟩
  · exact fun q => Int32.not_lt.mpr (zn_nonneg (by omega)) q
  · exact fun q => Int32.not_lt.mpr (zn_nonneg (by omega)) q
  · rw [ix_zn (by omega), en]; exact hd
  · rw [ix_zn (by omega), en]; exact hd
abbrev cwc (o j : Nat) : Prop := (31 ≤ o ∧ o ≤ 34) ∨ (o = 20 ∧ j = 11)
theorem shR_cwc : ∀ q ∈ shR, ¬ cwc q.1 q.2.1 := by decide +kernel
/-- the system lays them -/
theorem xs_layW (hC : OKC (C.wrd k F)) (hs : Sh M) (hk : C.nw + k ≤ 10) (h11 : M.i 20 11 = zn C.nw) (h24 : M.i 20 24 = zn (C.nw + k)) (hr : rdW C.nw k F M) (ho : ∀ w, w < C.nw → rowX C w M) (c5 : Int32) (Kc : PM → Option (Int32 × PM)) : ∃ M', x_words_L83 c5 Kc FU M = Kc M' ∧ Fq cwc M M' ∧ M'.i 20 11 = zn (C.nw + k) ∧ ∀ w, w < C.nw + k → rowX (C.wrd k F) w M' := by
  refine wlp (fun nn _ (_ : Unit) M2 => x_words_L83 c5 Kc nn M2) k FU (FU_lt (by omega)) (fun _ s => s) () (fun i M2 => Fq cwc M M2 ∧ M2.i 20 11 = zn (C.nw + i) ∧ ∀ w, w < C.nw + i → rowX (C.wrd k F) w M2) (fun o => ∃ M', o = Kc M' ∧ Fq cwc M M' ∧ M'.i 20 11 = zn (C.nw + k) ∧ ∀ w, w < C.nw + k → rowX (C.wrd k F) w M') (fun nn i M2 hi hI => ?_) (fun nn M2 hI => ?_) M ⟨Fq.rf, h11, fun w hw => ?_⟩
  · obtain ⟨f, i11, rw0⟩ := hI
    have i24 : M2.i 20 24 = zn (C.nw + k) := (f.i _ _ (by unfold cwc; omega)).trans h24
    have sh2 : Sh M2 := hs.fr f shR_cwc
    obtain ⟨q0, q1, q2, q3, q4⟩ := hr i hi
    obtain ⟨n1, n2, n3, n4⟩ := wrd_n (C := C) (k := k) (F := F) i
    obtain ⟨w, hw⟩ : ∃ w, w = C.nw + i := ⟨_, rfl⟩
    have hw10 : w < 10 := by omega
    rw [← hw] at i11 q1 q2 q3 q4 n1 n2 n3 n4 rw0
    obtain ⟨M10, hM10⟩ : ∃ M10, M10 = M2.ci 40 (6 * w) 31 (6 * w) 6 := ⟨_, rfl⟩
    have f10 : Fq (fun o x => o = 31 ∧ 6 * w ≤ x ∧ x < 6 * w + 6) M2 M10 := by
      rw [hM10]; exact Fq.ci Fq.rf (fun j a1 a2 => ⟨rfl, a1, a2⟩)
    have e10 : M10.i 20 11 = zn w := (f10.i _ _ (by omega)).trans i11
    obtain ⟨M11, hM11⟩ : ∃ M11, M11 = M10.si 32 w (M10.i 41 w) := ⟨_, rfl⟩
    have f11 : Fq (fun o x => o = 32 ∧ x = w) M10 M11 := by rw [hM11]; exact Fq.si (c := fun o x => o = 32 ∧ x = w) Fq.rf ⟨rfl, rfl⟩
    have e11 : M11.i 20 11 = zn w := (f11.i _ _ (by omega)).trans e10
    obtain ⟨M12, hM12⟩ : ∃ M12, M12 = M11.si 33 w (M11.i 42 w) := ⟨_, rfl⟩
    have f12 : Fq (fun o x => o = 33 ∧ x = w) M11 M12 := by rw [hM12]; exact Fq.si (c := fun o x => o = 33 ∧ x = w) Fq.rf ⟨rfl, rfl⟩
    have e12 : M12.i 20 11 = zn w := (f12.i _ _ (by omega)).trans e11
    obtain ⟨M13, hM13⟩ : ∃ M13, M13 = M12.si 34 w (M12.i 43 w) := ⟨_, rfl⟩
    have f13' : Fq (fun o x => o = 34 ∧ x = w) M12 M13 := by rw [hM13]; exact Fq.si (c := fun o x => o = 34 ∧ x = w) Fq.rf ⟨rfl, rfl⟩
    have e13 : M13.i 20 11 = zn w := (f13'.i _ _ (by omega)).trans e12
    obtain ⟨M14, hM14⟩ : ∃ M14, M14 = M13.si 20 11 (zn (w + 1)) := ⟨_, rfl⟩
    have f14 : Fq (fun o x => o = 20 ∧ x = 11) M13 M14 := by rw [hM14]; exact Fq.si (c := fun o x => o = 20 ∧ x = 11) Fq.rf ⟨rfl, rfl⟩
    refine ⟨M14, ⟨((((f.tr (f10.mo (d := cwc) (fun o x w => by unfold cwc; omega))).tr (f11.mo (d := cwc) (fun o x w => by unfold cwc; omega))).tr (f12.mo (d := cwc) (fun o x w => by unfold cwc; omega))).tr (f13'.mo (d := cwc) (fun o x w => by unfold cwc; omega))).tr (f14.mo (d := cwc) (fun o x w => Or.inr w)), ?_, fun v hv => ?_⟩, ?_⟩
    · rw [hM14, si_i, if_pos ⟨rfl, rfl⟩, hw]; rfl
    · by_cases e : v = w
      · rw [e]
        unfold rowX
        rw [n1, n2, n3]
        refine ⟨?_, ?_, ?_, fun j hj => ?_⟩
        · rw [f14.i _ _ (by omega), f13'.i _ _ (by omega), f12.i _ _ (by omega), hM11, si_i, if_pos ⟨rfl, rfl⟩, f10.i _ _ (by omega), f.i _ _ (by unfold cwc; omega)]; exact q3
        · rw [f14.i _ _ (by omega), f13'.i _ _ (by omega), hM12, si_i, if_pos ⟨rfl, rfl⟩, f11.i _ _ (by omega), f10.i _ _ (by omega), f.i _ _ (by unfold cwc; omega)]; exact q1
        · rw [f14.i _ _ (by omega), hM13, si_i, if_pos ⟨rfl, rfl⟩, f12.i _ _ (by omega), f11.i _ _ (by omega), f10.i _ _ (by omega), f.i _ _ (by unfold cwc; omega)]; exact q2
        · have hj6 : j < 6 := by have := q0.2.2.1.2; omega
          rw [n4, f14.i _ _ (by omega), f13'.i _ _ (by omega), f12.i _ _ (by omega), f11.i _ _ (by omega), hM10, ci_i, if_pos rfl, if_pos ⟨by omega, by omega⟩, show 6 * w + (6 * w + j - 6 * w) = 6 * w + j by omega, f.i _ _ (by unfold cwc; omega)]; exact q4 j hj
      · have hvw : v < w := by omega
        obtain ⟨u1, u2, u3, u4⟩ := rw0 v hvw
        refine ⟨?_, ?_, ?_, fun j hj => ?_⟩
        · rw [f14.i _ _ (by omega), f13'.i _ _ (by omega), f12.i _ _ (by omega), f11.i _ _ (by omega), f10.i _ _ (by omega)]; exact u1
        · rw [f14.i _ _ (by omega), f13'.i _ _ (by omega), f12.i _ _ (by omega), f11.i _ _ (by omega), f10.i _ _ (by omega)]; exact u2
        · rw [f14.i _ _ (by omega), f13'.i _ _ (by omega), f12.i _ _ (by omega), f11.i _ _ (by omega), f10.i _ _ (by omega)]; exact u3
        · have u5 := u4 j hj
          have hl : (C.wrd k F).len v ≤ 6 := hC.len6 v (show v < C.nw + k by omega)
          rw [f14.i _ _ (by omega), f13'.i _ _ (by omega), f12.i _ _ (by omega), f11.i _ _ (by omega), f10.i _ _ (by omega)]; exact u5
    · show x_words_L83 c5 Kc (nn + 1) M2 = x_words_L83 c5 Kc nn M14
      rw [x_words_L83, i24, i11, if_neg (by rw [zn_le (by omega) (by omega)]; omega), zn_mull, ckc_w sh2 (by omega), ix_zn (by omega), show ix 6 = 6 from ix_zn (k := 6) (by omega), lt_u, ← hM10, e10, ck_zn (by omega) (by omega), ck_zn (by omega) (by omega), ix_zn (by omega), lt_u, ← hM11, e11, ck_zn (by omega) (by omega), ck_zn (by omega) (by omega), ix_zn (by omega), lt_u, ← hM12, e12, ck_zn (by omega) (by omega), ck_zn (by omega) (by omega), ix_zn (by omega), lt_u, ← hM13, e13, zn_addl, lt_u, ← hM14]
  · obtain ⟨f, i11, rw0⟩ := hI
    have i24 : M2.i 20 24 = zn (C.nw + k) := (f.i _ _ (by unfold cwc; omega)).trans h24
    refine ⟨M2, ?_, f, i11, rw0⟩
    show x_words_L83 c5 Kc (nn + 1) M2 = _
    rw [x_words_L83, i24, i11, if_pos (Int32.le_refl _)]
  · have hw' : w < C.nw := hw
    obtain ⟨w1, w2, w3, w4⟩ := wrd_o (C := C) (k := k) (F := F) hw'
    obtain ⟨u1, u2, u3, u4⟩ := ho w hw'
    unfold rowX
    rw [w1, w2, w3]
    exact ⟨u1, u2, u3, fun j hj => by rw [w4]; exact u4 j hj⟩
end
