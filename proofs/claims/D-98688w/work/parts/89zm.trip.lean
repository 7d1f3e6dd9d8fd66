set_option maxRecDepth 100000
/-! TRIPS: the system's answers -/
/-- in hour h the set T can be done for c -/
def DXT (C : SV) (A : Nat → Int32) (t s0 T0 h T c : Nat) : Prop := ∃ s, s < C.ns ∧ PX C A t s0 T0 h s T c
def FT (C : SV) (T0 t : Nat) : Nat := T0 ||| OO C T0 t
noncomputable def VT (I : Nat) (C : SV) (A : Nat → Int32) (t s0 T0 h : Nat) : Nat := vY I (DXT C A t s0 T0 h (FT C T0 t))
noncomputable def h1T (I : Nat) (C : SV) (A : Nat → Int32) (t s0 T0 n : Nat) : Option Nat := ffi (fun h => decide (VT I C A t s0 T0 h = VT I C A t s0 T0 n)) (n + 1) 0
noncomputable def h2T (I : Nat) (C : SV) (A : Nat → Int32) (t s0 T0 : Nat) : Option Nat := ffi (fun h => decide (VT I C A t s0 T0 h < I)) 13 0
noncomputable def trR (I : Nat) (C : SV) (A : Nat → Int32) (t s0 T0 n : Nat) : List Int64 := [(zn ((h1T I C A t s0 T0 n).getD 0)).toInt64, (bcn (zn (OO C T0 t))).toInt64]
theorem ffi_some {P : Nat → Bool} {d k w : Nat} (h1 : k ≤ w) (h2 : w < k + d) (h3 : P w = true) : ∃ e, ffi P d k = some e := by
  rcases e : ffi P d k with _ | x
  · have := ffi_none P d k e w h1 h2
    rw [h3] at this
    cases this
  · exact ⟨x, rfl⟩
section
variable {C : SV} {A : Nat → Int32} {M M1 : PM} {t s0 T0 h s n T : Nat} {G : Nat → Nat → Nat → Nat} {nT nU ch : Nat} {bT : Nat → Nat} {U : Nat → Nat → Int32} {K : Nat → Bool × (Nat → Int32) × Nat} {l : List Int64}
theorem FT_lt (hT0 : T0 < 2 ^ C.ne) : FT C T0 t < 2 ^ C.ne := or_lt8 hT0 (OO_lt C T0 t)
theorem VT_is (I : Nat) (h : Nat) : isY I (DXT C A t s0 T0 h (FT C T0 t)) (VT I C A t s0 T0 h) := vY_is I _
theorem VT_le (I : Nat) (h : Nat) : VT I C A t s0 T0 h ≤ I := (VT_is I h).1
theorem xs_doneIn (hC : OKC C) (hn : n ≤ 12) (hh : h ≤ n) (hT0 : T0 < 2 ^ C.ne) (hx : CX C M) (hT : tab C n G M) (hP : inP C A t s0 T0 (n + 1) G) : x_doneIn (zn h) (zn (FT C T0 t)) M = some (zn (VT IX C A t s0 T0 h), M) := by
  have b2 := hC.ns6
  have b3 := p2_256 hC.ne8
  have hF := FT_lt (C := C) (t := t) hT0
  have go : ∀ d s F y, s + d = C.ns → d < F → isY IX (fun c => ∃ s', s' < s ∧ PX C A t s0 T0 h s' (FT C T0 t) c) y → x_doneIn_L7 (zn h) (zn (FT C T0 t)) F (zn y) (zn s) M = some (zn (VT IX C A t s0 T0 h), M) := by
    intro d
    induction d with
    | zero =>
      intro s F y hs hF0 hy
      obtain ⟨F, rfl⟩ : ∃ m, F = m + 1 := ⟨F - 1, by omega⟩
      have e : s = C.ns := by omega
      subst e
      rw [x_doneIn_L7, hx.ns, if_pos (by rw [zn_le (by omega) (by omega)]; omega), hy.uniq (VT_is IX h)]
    | succ d ih =>
      intro s F y hs hF0 hy
      obtain ⟨F, rfl⟩ : ∃ m, F = m + 1 := ⟨F - 1, by omega⟩
      have hg : isY IX (PX C A t s0 T0 h s (FT C T0 t)) (G h s (FT C T0 t)) := hP h (by omega) s (by omega) _ hF
      have i1 : y ≤ 1000000000 := hy.1
      have i2 : G h s (FT C T0 t) ≤ 1000000000 := hg.1
      rw [x_doneIn_L7, hx.ns, if_neg (by rw [zn_le (by omega) (by omega)]; omega), bde (xs_spot h s _ M), ck_zn (sp_lt (by omega) (by omega) (by omega)) (by unfold sp; omega), ix_zn (by unfold sp; omega), hT h hh s (by omega) _ hF, imin_zn (by omega) (by omega), lt_u, lt_u, zn_addl]
      refine ih (s + 1) F _ (by omega) (by omega) ((isY.min hy hg).iff (fun c => ⟨?_, ?_⟩))
      · rintro (⟨s', h1, h2⟩ | h2)
        · exact ⟨s', by omega, h2⟩
        · exact ⟨s, by omega, h2⟩
      · rintro ⟨s', h1, h2⟩
        by_cases e : s' = s
        · rw [← e]; exact Or.inr h2
        · exact Or.inl ⟨s', by omega, h2⟩
  unfold x_doneIn
  rw [b9]
  exact go C.ns 0 FU IX (by omega) (FU_lt (by omega)) (isY.none IX (fun c w => by obtain ⟨s', w1, -⟩ := w; omega))
theorem tc_qt (o j : Nat) (q : tcX o j) : xqt o j := q.elim (fun w => Or.inl (ca_ts o j w)) (fun w => Or.inl (by unfold ts; omega))
theorem tab.fr {c : Nat → Nat → Prop} (h : tab C n G M) (f : Fq c M M1) (hc : ∀ j, ¬ c 65 j) : tab C n G M1 := fun a ha b hb d hd => by rw [f.i _ _ (hc _)]; exact h a ha b hb d hd
theorem xs_trip (h : XS C A nT bT nU U ch K l M) (ht : t < C.nt) (hn : n ≤ 12) (hs0 : s0 < C.ns) (hT0 : T0 < 2 ^ C.ne) (hA0 : A t = zn s0) (hA13 : A 13 = zn T0) :
    (VT IX C A t s0 T0 n < IX → ∃ M1, x_trip (zn t) (zn n) M = some (zn (VT IX C A t s0 T0 n), M1) ∧ Ge gxc M M1 ∧ XS C A nT bT nU U ch K (trR IX C A t s0 T0 n) M1 ∧ M1.n ≤ M.n + 500 ∧ M1.w ≤ M.w + 5000) ∧
    (¬ VT IX C A t s0 T0 n < IX → ∃ M1, x_trip (zn t) (zn n) M = some (-2, M1) ∧ Ge gxc M M1 ∧ XS C A nT bT nU U ch K l M1 ∧ M1.n ≤ M.n + 500 ∧ M1.w ≤ M.w + 5000) := by
  have hC := h.x.ok
  have b2 := hC.ns6
  have b3 := p2_256 hC.ne8
  have b4 := hC.nt4
  obtain ⟨M3, G, e3, f3, T3, P3⟩ := xs_laysTrip (t := t) hC hn (by omega) hs0 hT0 hA0 hA13 h.x h.a
  have f3q := f3.mo tc_qt
  have s3 : XS C A nT bT nU U ch K l M3 := h.q f3q (h.t.fr f3 (by unfold tcX ca; omega) (fun j => by unfold tcX ca; omega)) (h.lx.fr f3 (by unfold tcX ca; omega) (fun j => by unfold tcX ca; omega))
  have eo : ∀ M, XS C A nT bT nU U ch K l M → x_errandsOf (zn t) M = some (zn (OO C T0 t), M) := fun M q => by
    rw [xs_errandsOf q.x, hx13 q.a, hA13, opn_bN hC (by omega)]
  have eo2 : ∀ M l', XS C A nT bT nU U ch K l' M → x_errandsOf (zn t) M = some (zn (OO C T0 t), M) := fun M l' q => by
    rw [xs_errandsOf q.x, hx13 q.a, hA13, opn_bN hC (by omega)]
  have ei : (M3.i 21 5) ||| zn (OO C T0 t) = zn (FT C T0 t) := by
    rw [hx13 s3.a, hA13, zn_or]
    rfl
  have ed := fun k (hk : k ≤ n) => xs_doneIn (t := t) hC hn hk hT0 s3.x T3 P3
  have hVl := VT_le (C := C) (A := A) (t := t) (s0 := s0) (T0 := T0) IX n
  have hVl' : VT IX C A t s0 T0 n ≤ 1000000000 := hVl
  obtain ⟨Kd, hKd⟩ : ∃ Kd : Int32 → PM → Option (Int32 × PM), Kd = (fun (v9 : Int32) (M8 : PM) => lt (M8.si 20 67 0) fun M9 => bd (x_tells (Int32.toInt64 v9) M9) fun _ M10 => bd (x_errandsOf (zn t) M10) fun v10 M11 => bd (jl_bitCount v10 M11) fun v11 M12 => bd (x_tells (Int32.toInt64 v11) M12) fun _ M13 => some (zn (VT IX C A t s0 T0 n), M13)) := ⟨_, rfl⟩
  have hun : x_trip (zn t) (zn n) M = if zn (VT IX C A t s0 T0 n) < 1000000000 then x_trip_L64 (zn t) (zn (FT C T0 t)) (zn (VT IX C A t s0 T0 n)) Kd FU 0 M3 else some (-2, M3) := by
    unfold x_trip
    rw [bde (xt_trav h.x ht), if_neg (show ¬ (1 : Int32) = 0 by decide), bde (xt_12 hn M), if_neg (show ¬ (1 : Int32) = 0 by decide), bde e3, bde (eo M3 s3), ei, lt_u, bde (ed n (Nat.le_refl n)), hKd]
  refine ⟨fun g => ?_, fun g => ?_⟩
  · obtain ⟨k, hk⟩ := ffi_some (P := fun h => decide (VT IX C A t s0 T0 h = VT IX C A t s0 T0 n)) (d := n + 1) (k := 0) (w := n) (Nat.zero_le n) (by omega) (decide_eq_true rfl)
    have loop : ∀ d i F, i + d = n + 1 → d < F → ffi (fun h => decide (VT IX C A t s0 T0 h = VT IX C A t s0 T0 n)) d i = some k → x_trip_L64 (zn t) (zn (FT C T0 t)) (zn (VT IX C A t s0 T0 n)) Kd F (zn i) M3 = Kd (zn k) M3 := by
      intro d
      induction d with
      | zero => intro i F _ _ e; cases e
      | succ d ih =>
        intro i F hi hF e
        obtain ⟨F, rfl⟩ : ∃ m, F = m + 1 := ⟨F - 1, by omega⟩
        have hVi : VT IX C A t s0 T0 i ≤ 1000000000 := VT_le IX i
        unfold ffi at e
        rw [x_trip_L64, bde (ed i (by omega))]
        by_cases q : VT IX C A t s0 T0 i = VT IX C A t s0 T0 n
        · rw [if_pos (decide_eq_true q)] at e
          cases e
          rw [if_pos (by rw [q])]
        · rw [if_neg (by rw [decide_eq_true_eq]; exact q)] at e
          rw [if_neg (by rw [zn_eq (by omega) (by omega)]; exact q), lt_u, zn_addl]
          exact ih (i + 1) F (by omega) (by omega) e
    have e4 := loop (n + 1) 0 FU (by omega) (FU_lt (by omega)) hk
    have e4' : x_trip_L64 (zn t) (zn (FT C T0 t)) (zn (VT IX C A t s0 T0 n)) Kd FU 0 M3 = _ := e4
    have fz : Fq (fun o j => o = 20 ∧ j = 67) M3 (M3.si 20 67 0) := Fq.si (c := fun o j => o = 20 ∧ j = 67) Fq.rf ⟨rfl, rfl⟩
    have fzq : Fq xqt M3 (M3.si 20 67 0) := fz.mo (d := xqt) (fun o j q => Or.inr (Or.inl ⟨q.1, Or.inl q.2⟩))
    have sz : XS C A nT bT nU U ch K [] (M3.si 20 67 0) := s3.q fzq (s3.t.fr fz (by omega) (fun j => by omega)) (lx0 M3)
    obtain ⟨M5, e5, f5, l5⟩ := xs_tells (lx0 M3) (show ([] : List Int64).length < 16 by decide) (zn k).toInt64
    have s5 := sz.q (f5.mo rwx_qt) (sz.t.fr f5 (by unfold rwx; omega) (fun j => by unfold rwx; omega)) l5
    obtain ⟨M6, e6, f6, l6⟩ := xs_tells l5 (by show 0 + 1 < 16; omega) (bcn (zn (OO C T0 t))).toInt64
    have s6 := s5.q (f6.mo rwx_qt) (s5.t.fr f6 (by unfold rwx; omega) (fun j => by unfold rwx; omega)) l6
    have fall : Fq xqt M M6 := ((f3q.tr fzq).tr (f5.mo rwx_qt)).tr (f6.mo rwx_qt)
    have er : trR IX C A t s0 T0 n = [] ++ [(zn k).toInt64] ++ [(bcn (zn (OO C T0 t))).toInt64] := by
      unfold trR h1T
      rw [hk]
      rfl
    rw [← er] at s6
    refine ⟨M6, ?_, fall.gx, s6, fall.n5, fall.w5⟩
    rw [hun, b9, if_pos (by rw [zn_lt (by omega) (by omega)]; exact g), e4', hKd]
    simp only [lt_u]
    rw [bde e5, bde (eo2 M5 _ s5), bde (bc_M _ _), bde e6]
  · refine ⟨M3, ?_, f3q.gx, s3, f3q.n5, f3q.w5⟩
    rw [hun, b9, if_neg (by rw [zn_lt (by omega) (by omega)]; exact g)]
theorem xs_haste (h : XS C A nT bT nU U ch K l M) (ht : t < C.nt) (hs0 : s0 < C.ns) (hT0 : T0 < 2 ^ C.ne) (hA0 : A t = zn s0) (hA13 : A 13 = zn T0) :
    (∀ k, h2T IX C A t s0 T0 = some k → ∃ M1, x_haste (zn t) M = some (zn k, M1) ∧ Ge gxc M M1 ∧ XS C A nT bT nU U ch K [(zn (VT IX C A t s0 T0 k)).toInt64] M1 ∧ M1.n ≤ M.n + 500 ∧ M1.w ≤ M.w + 5000) ∧
    (h2T IX C A t s0 T0 = none → ∃ M1, x_haste (zn t) M = some (-2, M1) ∧ Ge gxc M M1 ∧ XS C A nT bT nU U ch K l M1 ∧ M1.n ≤ M.n + 500 ∧ M1.w ≤ M.w + 5000) := by
  have hC := h.x.ok
  have b2 := hC.ns6
  have b3 := p2_256 hC.ne8
  have b4 := hC.nt4
  obtain ⟨M3, G, e3, f3, T3, P3⟩ := xs_laysTrip (t := t) (n := 12) hC (by omega) (by omega) hs0 hT0 hA0 hA13 h.x h.a
  have e3' : x_laysTrip (zn t) 12 M = _ := e3
  have f3q := f3.mo tc_qt
  have s3 : XS C A nT bT nU U ch K l M3 := h.q f3q (h.t.fr f3 (by unfold tcX ca; omega) (fun j => by unfold tcX ca; omega)) (h.lx.fr f3 (by unfold tcX ca; omega) (fun j => by unfold tcX ca; omega))
  have eo : x_errandsOf (zn t) M3 = some (zn (OO C T0 t), M3) := by
    rw [xs_errandsOf s3.x, hx13 s3.a, hA13, opn_bN hC (by omega)]
  have ei : (M3.i 21 5) ||| zn (OO C T0 t) = zn (FT C T0 t) := by
    rw [hx13 s3.a, hA13, zn_or]
    rfl
  have ed := fun k (hk : k ≤ 12) => xs_doneIn (t := t) hC (Nat.le_refl 12) hk hT0 s3.x T3 P3
  obtain ⟨Kd, hKd⟩ : ∃ Kd : Int32 → PM → Option (Int32 × PM), Kd = (fun (v7 : Int32) (M7 : PM) => if v7 ≤ 12 then (lt (M7.si 20 67 0) fun M8 => bd (x_doneIn v7 (zn (FT C T0 t)) M8) fun v8 M9 => bd (x_tells (Int32.toInt64 v8) M9) fun _ M10 => some (v7, M10)) else (some ((-2), M7))) := ⟨_, rfl⟩
  have hun : x_haste (zn t) M = x_haste_L33 (zn (FT C T0 t)) Kd FU 0 M3 := by
    unfold x_haste
    rw [bde (xt_trav h.x ht), if_neg (show ¬ (1 : Int32) = 0 by decide), bde e3', bde eo, ei, lt_u, hKd]
  have loop : ∀ d i F, i + d = 13 → d < F → x_haste_L33 (zn (FT C T0 t)) Kd F (zn i) M3 = Kd (match ffi (fun h => decide (VT IX C A t s0 T0 h < IX)) d i with | some k => zn k | none => zn 13) M3 := by
    intro d
    induction d with
    | zero =>
      intro i F hi hF
      obtain ⟨F, rfl⟩ : ∃ m, F = m + 1 := ⟨F - 1, by omega⟩
      rw [x_haste_L33]
      simp only [jn_u]
      rw [if_pos (by rw [l_lt_zn (by omega) (by omega)]; omega)]
      show Kd (zn i) M3 = Kd (zn 13) M3
      rw [show i = 13 by omega]
    | succ d ih =>
      intro i F hi hF
      obtain ⟨F, rfl⟩ : ∃ m, F = m + 1 := ⟨F - 1, by omega⟩
      have hVi : VT IX C A t s0 T0 i ≤ 1000000000 := VT_le IX i
      rw [x_haste_L33]
      simp only [jn_u]
      rw [if_neg (by rw [l_lt_zn (by omega) (by omega)]; omega), bde (ed i (by omega)), b9]
      unfold ffi
      by_cases q : VT IX C A t s0 T0 i < IX
      · rw [if_pos (by rw [zn_lt (by omega) (by omega)]; exact q), if_pos (decide_eq_true q)]
      · rw [if_neg (by rw [zn_lt (by omega) (by omega)]; exact q), if_neg (by rw [decide_eq_true_eq]; exact q), lt_u, zn_addl]
        exact ih (i + 1) F (by omega) (by omega)
  have e4 := loop 13 0 FU (by omega) (FU_lt (by omega))
  have e4' : x_haste_L33 (zn (FT C T0 t)) Kd FU 0 M3 = _ := e4
  refine ⟨fun k g => ?_, fun g => ?_⟩
  · unfold h2T at g
    rw [g] at e4'
    have k12 : k < 0 + 13 := (ffi_lt _ _ _ _ g).1
    have fz : Fq (fun o j => o = 20 ∧ j = 67) M3 (M3.si 20 67 0) := Fq.si (c := fun o j => o = 20 ∧ j = 67) Fq.rf ⟨rfl, rfl⟩
    have fzq : Fq xqt M3 (M3.si 20 67 0) := fz.mo (d := xqt) (fun o j q => Or.inr (Or.inl ⟨q.1, Or.inl q.2⟩))
    have sz : XS C A nT bT nU U ch K [] (M3.si 20 67 0) := s3.q fzq (s3.t.fr fz (by omega) (fun j => by omega)) (lx0 M3)
    have ed2 := xs_doneIn (t := t) hC (Nat.le_refl 12) (show k ≤ 12 by omega) hT0 sz.x (T3.fr fz (fun j => by omega)) P3
    obtain ⟨M5, e5, f5, l5⟩ := xs_tells (lx0 M3) (show ([] : List Int64).length < 16 by decide) (zn (VT IX C A t s0 T0 k)).toInt64
    have s5 := sz.q (f5.mo rwx_qt) (sz.t.fr f5 (by unfold rwx; omega) (fun j => by unfold rwx; omega)) l5
    have fall : Fq xqt M M5 := (f3q.tr fzq).tr (f5.mo rwx_qt)
    refine ⟨M5, ?_, fall.gx, s5, fall.n5, fall.w5⟩
    rw [hun, e4', hKd]
    show (if zn k ≤ 12 then _ else _) = _
    simp only [lt_u]
    rw [if_pos (show zn k ≤ (12 : Int32) from (by show zn k ≤ zn 12; rw [zn_le (by omega) (by omega)]; omega)), bde ed2, bde e5]
  · unfold h2T at g
    rw [g] at e4'
    refine ⟨M3, ?_, f3q.gx, s3, f3q.n5, f3q.w5⟩
    rw [hun, e4', hKd]
    show (if zn 13 ≤ 12 then _ else _) = _
    rw [if_neg (by decide)]
end
