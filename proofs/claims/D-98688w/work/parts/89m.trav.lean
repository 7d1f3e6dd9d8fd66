set_option maxRecDepth 100000
/-! TRAVELLERS: the call -/
theorem xT_L (c1 : Int32) (Kc : Int32 → PM → Option (Int32 × PM)) (n : Nat) (v2 v3 : Int32) (M : PM) : x_travellers_L25 c1 Kc (n + 1) v2 v3 M = if v3 = 0 then Kc v2 M else bd (x_readsTraveller M) fun v4 M4 => if v4 = 0 then x_travellers_L25 c1 Kc n v4 0 M4 else bd (x_eats 59 M4) fun v6 M6 => if v6 = 0 then x_travellers_L25 c1 Kc n v4 0 M6 else x_travellers_L25 c1 Kc n v4 1 M6 := by
  rw [x_travellers_L25]
  simp only [jn_u]
abbrev ctA (o j : Nat) : Prop := ts o j ∨ (o = 20 ∧ (j = 16 ∨ j = 12)) ∨ (22 ≤ o ∧ o ≤ 24)
abbrev ctB (o j : Nat) : Prop := ts o j ∨ (o = 72 ∧ (j = 10 ∨ j = 6 ∨ j = 13)) ∨ o = 73
theorem shR_ctA : ∀ q ∈ shR, ¬ ctA q.1 q.2.1 := by decide +kernel
theorem shR_ctB : ∀ q ∈ shR, ¬ ctB q.1 q.2.1 := by decide +kernel
def dfT : Nat → DT := fun _ => (0, 0)
abbrev gT (b : Nat → Nat) (n ns n0 : Nat) : Nat × Option (Nat × (Nat → DT)) := goL (lnT b (min n 40) ns n0) b (min n 40) 100 0 dfT 0
theorem gT_ok {b : Nat → Nat} {n ns n0 q k : Nat} {F : Nat → DT} (h0 : n0 ≤ 4) (h : gT b n ns n0 = (q, some (k, F))) : n0 + k ≤ 4 ∧ ∀ i, i < k → okT ns (F i) := by
  refine goL_P (fun k F => n0 + k ≤ 4 ∧ ∀ i, i < k → okT ns (F i)) (fun k F p q d hP hr => ?_) 100 0 dfT 0 ⟨by omega, fun i hi => absurd hi (Nat.not_lt_zero i)⟩ q k F h
  obtain ⟨w1, w2⟩ := lnT_ok hr
  refine ⟨by have := hP.1; omega, fun i hi => ?_⟩
  unfold exF
  by_cases e : i = k
  · rw [if_pos e]; exact w2
  · rw [if_neg e]; exact hP.2 i (by omega)
section
variable {C : SV} {A : Nat → Int32} {M M1 : PM} {nT nU ch : Nat} {bT : Nat → Nat} {U : Nat → Nat → Int32} {K : Nat → Bool × (Nat → Int32) × Nat} {l : List Int64}
theorem xs_travellers (h : XS C A nT bT nU U ch K l M) (hch : ch < 1000) (hn : 0 < nT) :
    (∀ k F, gT bT nT C.ns C.nt = (nT, some (k, F)) → ∃ M1, x_travellers M = some (zn k, M1) ∧ Ge gxc M M1 ∧ XS (C.trv k) (trA A C.nt k F) 0 bT 0 U (ch + 1) K l M1 ∧ M1.n ≤ M.n + 500 ∧ M1.w ≤ M.w + 5000) ∧
    ((¬ ∃ k F, gT bT nT C.ns C.nt = (nT, some (k, F))) → ∃ M1, x_travellers M = some (-1 - zn (gT bT nT C.ns C.nt).1, M1) ∧ Ge gxc M M1 ∧ XS C A 0 bT nU U ch K l M1 ∧ M1.n ≤ M.n + 500 ∧ M1.w ≤ M.w + 5000) := by
  have b1 := h.x.ok.nt4
  have b2 := h.x.ok.ns1
  have b3 := h.x.ok.ns6
  have t1 := h.t.1.1
  obtain ⟨M1, e1, f1, i17, i19, X1, T1⟩ := xs_begins (m := 40) h.t h.x.sh (by omega)
  have e1' : x_begins 40 M = _ := e1
  obtain ⟨M2, hM2⟩ : ∃ M2, M2 = M1.si 20 24 (zn C.nt) := ⟨_, rfl⟩
  have f2 : Fq (fun o j => o = 20 ∧ j = 24) M1 M2 := by rw [hM2]; exact Fq.si (c := fun o j => o = 20 ∧ j = 24) Fq.rf ⟨rfl, rfl⟩
  have i12 : M1.i 20 12 = zn C.nt := (f1.i _ _ (by unfold bgx; omega)).trans h.x.nt
  have i10 : M2.i 20 10 = zn C.ns := by rw [f2.i _ _ (by omega), f1.i _ _ (by unfold bgx; omega)]; exact h.x.ns
  obtain ⟨Kd, hKd⟩ : ∃ Kd : Int32 → PM → Option (Int32 × PM), Kd = (fun (v7 : Int32) (M7 : PM) => bd (x_faultOf (zn nT) v7 M7) fun v8 M8 => if 0 ≤ v8 then (lt ((M8.i 20 24) - (M8.i 20 12)) fun v9 => x_travellers_L83 v9 (fun (M14 : PM) => bd (x_isNew M14) fun _ M15 => some (v9, M15)) FU M8) else (some (v8, M8))) := ⟨_, rfl⟩
  have hun : x_travellers M = x_travellers_L25 (zn nT) Kd FU 1 1 M2 := by
    unfold x_travellers
    rw [bde e1', if_neg (by rw [zn_eq_l (by omega) (by omega)]; omega), i12, lt_u, ← hM2, hKd]
  have hq : ∃ M3, x_travellers_L25 (zn nT) Kd FU 1 1 M2 = Kd (isS (gT bT nT C.ns C.nt).2) M3 ∧ Fq ctX M2 M3 ∧ XP bT (min nT 40) M3 ∧ M3.i 20 17 = zn (gT bT nT C.ns C.nt).1 ∧ (gT bT nT C.ns C.nt).1 ≤ min nT 40 ∧ ∀ k' F', (gT bT nT C.ns C.nt).2 = some (k', F') → xiT C.ns C.nt k' F' M3 := goX (c := ctX) (ln := lnT bT (min nT 40) C.ns C.nt) (xiT C.ns C.nt) (by unfold ctX; omega) (fun k F M q hI => by
    have fq := Mp.fq M q
    refine ⟨hI.1, (fq.i _ _ (by omega)).trans hI.2.1, (fq.i _ _ (by omega)).trans hI.2.2.1, fun i hi => ?_⟩
    obtain ⟨w1, w2, w3⟩ := hI.2.2.2 i hi
    exact ⟨w1, (fq.i _ _ (by omega)).trans w2, (fq.i _ _ (by omega)).trans w3⟩) (show min nT 40 ≤ 80 by omega) (x_travellers_L25 (zn nT) Kd) x_readsTraveller Kd (fun n v2 v3 M => xT_L _ _ _ _ _ _) (fun k F p M hp hX h17 hI => xs_readsT (by omega) b2 b3 hp hX h17 hI) 100 0 dfT 0 FU M2 1 (by omega) (FU_lt (by omega)) (by omega) (X1.fr f2 (by omega) (fun j => by omega)) ((f2.i _ _ (by omega)).trans i17) ⟨by omega, i10, by rw [hM2, si_i, if_pos ⟨rfl, rfl⟩]; rfl, fun i hi => absurd hi (Nat.not_lt_zero i)⟩
  obtain ⟨M3, e3, f3, X3, j3, g3, r3⟩ := hq
  have f123 : Fq xqt M M3 := ((f1.mo bgx_qt).tr (f2.mo (d := xqt) (fun o j q => Or.inl (Or.inl ⟨q.1, by omega⟩)))).tr (f3.mo (d := xqt) (fun o j q => Or.inl (by
    rcases q with q | q
    · unfold ts; omega
    · exact Or.inl ⟨q.1, by omega⟩)))
  have T3 : TX 0 bT M3 := (T1.fr f2 (by omega) (fun j => by omega)).fr f3 (by unfold ctX; omega) (fun j => by unfold ctX; omega)
  have f13a : Fq ctA M M3 := ((f1.mo (d := ctA) (fun o j q => (bgx_ts o j q).elim Or.inl (fun w => Or.inr (Or.inl ⟨w.1, Or.inl w.2⟩)))).tr (f2.mo (d := ctA) (fun o j q => Or.inl (Or.inl ⟨q.1, by omega⟩)))).tr (f3.mo (d := ctA) (fun o j q => Or.inl (by
    rcases q with q | q
    · unfold ts; omega
    · exact Or.inl ⟨q.1, by omega⟩)))
  have L3 : LX l M3 := h.lx.fr f13a (by unfold ctA ts; omega) (fun j => by unfold ctA ts; omega)
  have hok : ∀ q k F, gT bT nT C.ns C.nt = (q, some (k, F)) → C.nt + k ≤ 4 ∧ ∀ i, i < k → okT C.ns (F i) := fun q k F hG => gT_ok b1 hG
  generalize gT bT nT C.ns C.nt = G at e3 j3 g3 r3 hok ⊢
  refine ⟨fun k F hG => ?_, fun hG => ?_⟩
  · subst hG
    obtain ⟨I1, I2, I3, I4⟩ := r3 k F rfl
    have hF : ∀ i, i < k → okT C.ns (F i) := fun i hi => (I4 i hi).1
    have okC := ok_trv h.x.ok I1
    have x3 : CX C M3 := h.x.fr f123 (fun q hq w => shR_xmt q hq (Or.inl w)) (fun o j q => by unfold xqt ts; omega)
    have a3 : RvX 21 A M3 := h.a.fr f123 (fun o j q => by unfold rdc at q; unfold xqt ts; omega)
    obtain ⟨M4, e4, f4, i4, r4⟩ := xs_layT I1 x3.nt I3 (fun i hi => (I4 i hi).2) a3 (zn k) (fun (M14 : PM) => bd (x_isNew M14) fun _ M15 => some (zn k, M15))
    have fA : Fq ctA M M4 := f13a.tr (f4.mo (d := ctA) (fun o j q => q.elim (fun w => Or.inr (Or.inr w)) (fun w => Or.inr (Or.inl ⟨w.1, Or.inr w.2⟩))))
    have x4 : CX (C.trv k) M4 := by
      refine ⟨⟨h.x.sh.fr fA shR_ctA, okC⟩, ⟨?_, ?_, i4, ?_⟩, h.x.w fA (fun o j q1 q2 => by unfold ctA ts; omega), h.x.e fA (fun o j q1 q2 => by unfold ctA ts; omega), h.x.ru.fr fA (fun o j q => by unfold ctA ts; omega)⟩
      · rw [fA.i _ _ (by unfold ctA ts; omega)]; exact h.x.ns
      · rw [fA.i _ _ (by unfold ctA ts; omega)]; exact h.x.nw
      · rw [fA.i _ _ (by unfold ctA ts; omega)]; exact h.x.ne
    obtain ⟨M5, e5, f5, s5⟩ := h.new fA (fun o j q => by unfold ctA ts; omega) x4 r4 (oka_trv h.ok h.x.ok I1 hF) (T3.fr f4 (by unfold ctc; omega) (fun j => by unfold ctc; omega)) (L3.fr f4 (by unfold ctc; omega) (fun j => by unfold ctc; omega)) hch
    have ff : Fq gxc M M5 := (fA.mo (d := gxc) (fun o j q => q.elim Or.inr (fun w => Or.inl (by omega)))).tr (f5.mo (d := gxc) (fun o j q => Or.inl (by unfold isn at q; omega)))
    refine ⟨M5, ?_, ff.ge, s5, ff.n5, ff.w5⟩
    have ef := xs_faultOf (p := nT) X3 j3 g3 t1 true
    rw [if_pos ⟨rfl, rfl⟩] at ef
    have i12' : M3.i 20 12 = zn C.nt := x3.nt
    rw [hun, e3, show isS (some (k, F)) = bo true from rfl, hKd]
    simp only [lt_u]
    rw [bde ef, if_pos (by decide), I3, i12', zn_sub (by omega), Nat.add_sub_cancel_left, e4, bde e5]
  · have s3 : XS C A 0 bT nU U ch K l M3 := h.q f123 T3 L3
    have p8 : G.1 < 1000 := by omega
    have hv : ∃ g : Bool, isS G.2 = bo g ∧ ¬ (g = true ∧ G.1 = nT) := by
      rcases G with ⟨q, o⟩
      cases o with
      | none => exact ⟨false, rfl, fun w => Bool.noConfusion w.1⟩
      | some kf =>
        refine ⟨true, rfl, fun w => hG ⟨kf.1, kf.2, ?_⟩⟩
        have w2 : q = nT := w.2
        rw [w2]
    obtain ⟨g, hg1, hg2⟩ := hv
    have ef := xs_faultOf X3 j3 g3 t1 g
    rw [if_neg hg2] at ef
    refine ⟨M3, ?_, f123.gx, s3, f123.n5, f123.w5⟩
    rw [hun, e3, hg1, hKd]
    simp only [lt_u]
    rw [bde ef, if_neg (m1p_neg p8)]
end
