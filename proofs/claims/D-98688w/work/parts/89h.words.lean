set_option maxRecDepth 100000
/-! WORDS: the call -/
theorem xW_L (c1 : Int32) (Kc : Int32 → PM → Option (Int32 × PM)) (n : Nat) (v2 v3 : Int32) (M : PM) : x_words_L25 c1 Kc (n + 1) v2 v3 M = if v3 = 0 then Kc v2 M else bd (x_readsWord M) fun v4 M4 => if v4 = 0 then x_words_L25 c1 Kc n v4 0 M4 else bd (x_eats 59 M4) fun v6 M6 => if v6 = 0 then x_words_L25 c1 Kc n v4 0 M6 else x_words_L25 c1 Kc n v4 1 M6 := by
  rw [x_words_L25]
  simp only [jn_u]
abbrev cwA (o j : Nat) : Prop := ts o j ∨ (o = 20 ∧ (j = 16 ∨ j = 11)) ∨ (31 ≤ o ∧ o ≤ 34)
abbrev cwB (o j : Nat) : Prop := ts o j ∨ (o = 72 ∧ (j = 10 ∨ j = 2 ∨ j = 13)) ∨ (74 ≤ o ∧ o ≤ 76)
theorem shR_cwA : ∀ q ∈ shR, ¬ cwA q.1 q.2.1 := by decide +kernel
theorem shR_cwB : ∀ q ∈ shR, ¬ cwB q.1 q.2.1 := by decide +kernel
theorem bgx_ts (o j : Nat) (q : bgx o j) : ts o j ∨ (o = 20 ∧ j = 16) := by
  rcases (show j = 16 ∨ (17 ≤ j ∧ j ≤ 19) by omega) with w | w
  · exact Or.inr ⟨q.1, w⟩
  · exact Or.inl (Or.inl ⟨q.1, Or.inl w⟩)
theorem bgx_qt (o j : Nat) (q : bgx o j) : xqt o j := by
  rcases bgx_ts o j q with w | w
  · exact Or.inl w
  · exact Or.inr (Or.inl ⟨w.1, Or.inr w.2⟩)
theorem bgy_ts (o j : Nat) (q : bgy o j) : ts o j ∨ (o = 72 ∧ j = 10) := by
  rcases q.2 with w | w
  · exact Or.inr ⟨q.1, w⟩
  · exact Or.inl (by rw [q.1]; unfold ts; omega)
theorem bgy_qt (o j : Nat) (q : bgy o j) : yqt o j := by
  rcases bgy_ts o j q with w | w
  · exact Or.inl w
  · exact Or.inr (Or.inl ⟨w.1, Or.inr (Or.inr w.2)⟩)
theorem isS_0 {α : Type} {o : Option α} (h : o = none) : isS o = bo false := by rw [h]; rfl
theorem isS_1 {α : Type} {o : Option α} {a : α} (h : o = some a) : isS o = bo true := by rw [h]; rfl
def dfW : Nat → DW := fun _ => (0, 0, 0, fun _ => 0)
abbrev gW (b : Nat → Nat) (n n0 : Nat) : Nat × Option (Nat × (Nat → DW)) := goL (lnW b (min n 76) n0) b (min n 76) 100 0 dfW 0
section
variable {C : SV} {A : Nat → Int32} {M M1 : PM} {nT nU ch : Nat} {bT : Nat → Nat} {U : Nat → Nat → Int32} {K : Nat → Bool × (Nat → Int32) × Nat} {l : List Int64}
theorem xs_words (h : XS C A nT bT nU U ch K l M) (hch : ch < 1000) (hn : 0 < nT) :
    (∀ k F, gW bT nT C.nw = (nT, some (k, F)) → (C.nw + k ≤ 10 ∧ ∀ i, i < k → okW (F i)) ∧ ∃ M1, x_words M = some (zn k, M1) ∧ Ge gxc M M1 ∧ XS (C.wrd k F) A 0 bT 0 U (ch + 1) K l M1 ∧ M1.n ≤ M.n + 500 ∧ M1.w ≤ M.w + 5000) ∧
    ((¬ ∃ k F, gW bT nT C.nw = (nT, some (k, F))) → ∃ M1, x_words M = some (-1 - zn (gW bT nT C.nw).1, M1) ∧ Ge gxc M M1 ∧ XS C A 0 bT nU U ch K l M1 ∧ M1.n ≤ M.n + 500 ∧ M1.w ≤ M.w + 5000) := by
  have b1 := h.x.ok.nw10
  have t1 := h.t.1.1
  obtain ⟨M1, e1, f1, i17, i19, X1, T1⟩ := xs_begins (m := 76) h.t h.x.sh (by omega)
  have e1' : x_begins 76 M = _ := e1
  obtain ⟨M2, hM2⟩ : ∃ M2, M2 = M1.si 20 24 (zn C.nw) := ⟨_, rfl⟩
  have f2 : Fq (fun o j => o = 20 ∧ j = 24) M1 M2 := by rw [hM2]; exact Fq.si (c := fun o j => o = 20 ∧ j = 24) Fq.rf ⟨rfl, rfl⟩
  have i11 : M1.i 20 11 = zn C.nw := (f1.i _ _ (by unfold bgx; omega)).trans h.x.nw
  obtain ⟨Kd, hKd⟩ : ∃ Kd : Int32 → PM → Option (Int32 × PM), Kd = (fun (v7 : Int32) (M7 : PM) => bd (x_faultOf (zn nT) v7 M7) fun v8 M8 => if 0 ≤ v8 then (lt ((M8.i 20 24) - (M8.i 20 11)) fun v9 => x_words_L83 v9 (fun (M15 : PM) => bd (x_isNew M15) fun _ M16 => some (v9, M16)) FU M8) else (some (v8, M8))) := ⟨_, rfl⟩
  have hun : x_words M = x_words_L25 (zn nT) Kd FU 1 1 M2 := by
    unfold x_words
    rw [bde e1', if_neg (by rw [zn_eq_l (by omega) (by omega)]; omega), i11, lt_u, ← hM2, hKd]
  have hg : ∀ k p, p ≤ min nT 76 → p ≤ (lnW bT (min nT 76) C.nw k p).1 ∧ (lnW bT (min nT 76) C.nw k p).1 ≤ min nT 76 := fun k p hp => lnW_ge _ _ _ _ _ hp
  have hq : ∃ M3, x_words_L25 (zn nT) Kd FU 1 1 M2 = Kd (isS (gW bT nT C.nw).2) M3 ∧ Fq cwX M2 M3 ∧ XP bT (min nT 76) M3 ∧ M3.i 20 17 = zn (gW bT nT C.nw).1 ∧ (gW bT nT C.nw).1 ≤ min nT 76 ∧ ∀ k' F', (gW bT nT C.nw).2 = some (k', F') → xiW C.nw k' F' M3 := goX (c := cwX) (ln := lnW bT (min nT 76) C.nw) (xiW C.nw) (by unfold cwX; omega) (fun k F M q hI => by
    have fq := Mp.fq M q
    refine ⟨hI.1, (fq.i _ _ (by omega)).trans hI.2.1, fun i hi => ?_⟩
    obtain ⟨w1, w2, w3, w4, w5⟩ := hI.2.2 i hi
    exact ⟨w1, (fq.i _ _ (by omega)).trans w2, (fq.i _ _ (by omega)).trans w3, (fq.i _ _ (by omega)).trans w4, fun j hj => (fq.i _ _ (by omega)).trans (w5 j hj)⟩) (show min nT 76 ≤ 80 by omega) (x_words_L25 (zn nT) Kd) x_readsWord Kd (fun n v2 v3 M => xW_L _ _ _ _ _ _) (fun k F p M hp hX h17 hI => xs_readsWord (by omega) b1 hp hX h17 hI) 100 0 dfW 0 FU M2 1 (by omega) (FU_lt (by omega)) (by omega) (X1.fr f2 (by omega) (fun j => by omega)) ((f2.i _ _ (by omega)).trans i17) ⟨by omega, by rw [hM2, si_i, if_pos ⟨rfl, rfl⟩]; rfl, fun i hi => absurd hi (Nat.not_lt_zero i)⟩
  obtain ⟨M3, e3, f3, X3, j3, g3, r3⟩ := hq
  have f123 : Fq xqt M M3 := ((f1.mo bgx_qt).tr (f2.mo (d := xqt) (fun o j q => Or.inl (Or.inl ⟨q.1, by omega⟩)))).tr (f3.mo (d := xqt) (fun o j q => Or.inl (by
    rcases q with q | q
    · unfold ts; omega
    · exact Or.inl ⟨q.1, by omega⟩)))
  have T3 : TX 0 bT M3 := (T1.fr f2 (by omega) (fun j => by omega)).fr f3 (by unfold cwX; omega) (fun j => by unfold cwX; omega)
  have f13a : Fq cwA M M3 := ((f1.mo (d := cwA) (fun o j q => (bgx_ts o j q).elim Or.inl (fun w => Or.inr (Or.inl ⟨w.1, Or.inl w.2⟩)))).tr (f2.mo (d := cwA) (fun o j q => Or.inl (Or.inl ⟨q.1, by omega⟩)))).tr (f3.mo (d := cwA) (fun o j q => Or.inl (by
    rcases q with q | q
    · unfold ts; omega
    · exact Or.inl ⟨q.1, by omega⟩)))
  have L3 : LX l M3 := h.lx.fr f13a (by unfold cwA ts; omega) (fun j => by unfold cwA ts; omega)
  generalize gW bT nT C.nw = G at e3 j3 g3 r3 ⊢
  refine ⟨fun k F hG => ?_, fun hG => ?_⟩
  · subst hG
    obtain ⟨I1, I2, I3⟩ := r3 k F rfl
    have hF : ∀ i, i < k → okW (F i) := fun i hi => (I3 i hi).1
    have okC := ok_wrd h.x.ok I1 hF
    have x3 : CX C M3 := h.x.fr f123 (fun q hq w => shR_xmt q hq (Or.inl w)) (fun o j q => by unfold xqt ts; omega)
    obtain ⟨M4, e4, f4, i4, r4⟩ := xs_layW okC x3.sh I1 x3.nw I2 I3 (fun w hw => x3.2.2.1 w hw) (zn k) (fun (M15 : PM) => bd (x_isNew M15) fun _ M16 => some (zn k, M16))
    have fA : Fq cwA M M4 := f13a.tr (f4.mo (d := cwA) (fun o j q => q.elim (fun w => Or.inr (Or.inr w)) (fun w => Or.inr (Or.inl ⟨w.1, Or.inr w.2⟩))))
    have x4 : CX (C.wrd k F) M4 := by
      refine ⟨⟨h.x.sh.fr fA shR_cwA, okC⟩, ⟨?_, i4, ?_, ?_⟩, r4, h.x.e fA (fun o j q1 q2 => by unfold cwA ts; omega), h.x.ru.fr fA (fun o j q => by unfold cwA ts; omega)⟩
      · rw [fA.i _ _ (by unfold cwA ts; omega)]; exact h.x.ns
      · rw [fA.i _ _ (by unfold cwA ts; omega)]; exact h.x.nt
      · rw [fA.i _ _ (by unfold cwA ts; omega)]; exact h.x.ne
    obtain ⟨M5, e5, f5, s5⟩ := h.new fA (fun o j q => by unfold cwA ts; omega) x4 (h.a.fr fA (fun o j q => by unfold rdc at q; unfold cwA ts; omega)) (oka_wrd h.ok) (T3.fr f4 (by unfold cwc; omega) (fun j => by unfold cwc; omega)) (L3.fr f4 (by unfold cwc; omega) (fun j => by unfold cwc; omega)) hch
    have ff : Fq gxc M M5 := (fA.mo (d := gxc) (fun o j q => q.elim Or.inr (fun w => Or.inl (by omega)))).tr (f5.mo (d := gxc) (fun o j q => Or.inl (by unfold isn at q; omega)))
    refine ⟨⟨I1, hF⟩, M5, ?_, ff.ge, s5, ff.n5, ff.w5⟩
    have ef := xs_faultOf (p := nT) X3 j3 g3 t1 true
    rw [if_pos ⟨rfl, rfl⟩] at ef
    have i11' : M3.i 20 11 = zn C.nw := x3.nw
    rw [hun, e3, show isS (some (k, F)) = bo true from rfl, hKd]
    simp only [lt_u]
    rw [bde ef, if_pos (by decide), I2, i11', zn_sub (by omega), Nat.add_sub_cancel_left, e4, bde e5]
  · have s3 : XS C A 0 bT nU U ch K l M3 := h.q f123 T3 L3
    have p8 : G.1 < 1000 := by omega
    have hv : ∃ g : Bool, isS G.2 = bo g ∧ ¬ (g = true ∧ G.1 = nT) := by
      rcases G with ⟨q, o⟩
      cases o with
      | none => exact ⟨false, rfl, fun w => Bool.noConfusion w.1⟩
      | some kf =>
        refine ⟨true, rfl, fun w => hG ⟨kf.1, kf.2, ?_⟩⟩
        have w2 : q = nT := w.2
        rw [w2]
    obtain ⟨g, hg1, hg2⟩ := hv
    have ef := xs_faultOf X3 j3 g3 t1 g
    rw [if_neg hg2] at ef
    refine ⟨M3, ?_, f123.gx, s3, f123.n5, f123.w5⟩
    rw [hun, e3, hg1, hKd]
    simp only [lt_u]
    rw [bde ef, if_neg (m1p_neg p8)]
end
