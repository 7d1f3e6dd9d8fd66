set_option maxRecDepth 100000
/-! JOURNEYS: the system's call -/
def dfJ : Nat → DJ := fun _ => (0, 0)
def pJ (b : Nat → Nat) (n : Nat) : Nat × Option (Nat × (Nat → DJ)) := if n = 0 then (0, some (0, dfJ)) else glJ b (min n 60) 100 0 dfJ 0
theorem pJ_ok {b : Nat → Nat} {n q kk : Nat} {F : Nat → DJ} (h : pJ b n = (q, some (kk, F))) : kk ≤ 20 ∧ ∀ i, i < kk → okJ (F i) := by
  unfold pJ at h
  by_cases g : n = 0
  · rw [if_pos g] at h; cases h; exact ⟨by omega, fun i hi => absurd hi (Nat.not_lt_zero i)⟩
  · rw [if_neg g] at h
    obtain ⟨h1, h2, -⟩ := glJ_ok 100 0 dfJ 0 (by omega) (by omega) (fun i hi => absurd hi (Nat.not_lt_zero i)) h
    exact ⟨by omega, h2⟩
theorem pJ_le (b : Nat → Nat) (n : Nat) : (pJ b n).1 ≤ min n 60 := by
  unfold pJ
  by_cases g : n = 0
  · rw [if_pos g]; exact Nat.zero_le _
  · rw [if_neg g]; exact goL_le (fun k p hp => lnJ_ge _ _ _ hp) 100 0 dfJ 0 (by omega)
def pNJ (cnt nU : Nat) : Nat := if cnt = 0 then nU else psN nU
def pUJ (cnt nU : Nat) (U : Nat → Nat → Int32) (A : Nat → Int32) : Nat → Nat → Int32 := if cnt = 0 then U else psU nU U A
def jlJ (kk : Nat) (R : Nat × (Nat → Int32) × Int32) : List Int64 := [if kk ≤ R.1 then 0 else 1, R.2.2.toInt64]
def tailX (cnt : Nat) (M15 : PM) : Option (Int32 × PM) := lt (M15.si 20 67 0) fun M16 => if (M16.i 20 47) ≤ zn cnt then (bd (x_tells 0 M16) fun _ M18 => bd (x_tells (Int32.toInt64 (M18.i 20 48)) M18) fun _ M19 => some (zn cnt, M19)) else (bd (x_tells 1 M16) fun _ M18 => bd (x_tells (Int32.toInt64 (M18.i 20 48)) M18) fun _ M19 => some (zn cnt, M19))
theorem cjX_qt : ∀ o j, cjX o j → xqt o j := fun o j q => Or.inl (by
  rcases q with q | q
  · unfold ts; omega
  · unfold ts; omega)
theorem jxc_xm : ∀ o j, jxc o j → xmt o j := fun o j q => by
  rcases q with (q | q | q) | q
  · exact Or.inl (ca_xqt o j q)
  · exact Or.inr q
  · exact Or.inl (Or.inl (Or.inl ⟨q.1, by omega⟩))
  · exact Or.inl (Or.inl (Or.inl ⟨q.1, by omega⟩))
section
variable {C : SV} {A : Nat → Int32} {M M1 : PM} {nT nU ch : Nat} {bT : Nat → Nat} {U : Nat → Nat → Int32} {K : Nat → Bool × (Nat → Int32) × Nat} {l : List Int64}
theorem xs_tailJ {cnt kk : Nat} {sp : Int32} (hc : cnt ≤ 1000) (hk : kk ≤ 1000) (h47 : M.i 20 47 = zn kk) (h48 : M.i 20 48 = sp) : ∃ M1, tailX cnt M = some (zn cnt, M1) ∧ Fq rwx M M1 ∧ LX [if kk ≤ cnt then 0 else 1, sp.toInt64] M1 := by
  have j47 : (M.si 20 67 0).i 20 47 = zn kk := by rw [si_i, if_neg (by omega)]; exact h47
  unfold tailX
  rw [lt_u, j47]
  by_cases g : kk ≤ cnt
  · rw [if_pos (by rw [zn_le (by omega) (by omega)]; exact g), if_pos g]
    obtain ⟨M3, e3, f3, l3⟩ := xs_tell0 M 0
    obtain ⟨M4, e4, f4, l4⟩ := xs_tell1 l3 sp.toInt64
    refine ⟨M4, ?_, f3.tr f4, l4⟩
    rw [bde e3, show M3.i 20 48 = sp from (f3.i _ _ (by unfold rwx; omega)).trans h48, bde e4]
  · rw [if_neg (by rw [zn_le (by omega) (by omega)]; exact g), if_neg g]
    obtain ⟨M3, e3, f3, l3⟩ := xs_tell0 M 1
    obtain ⟨M4, e4, f4, l4⟩ := xs_tell1 l3 sp.toInt64
    refine ⟨M4, ?_, f3.tr f4, l4⟩
    rw [bde e3, show M3.i 20 48 = sp from (f3.i _ _ (by unfold rwx; omega)).trans h48, bde e4]
theorem rwx_qt : ∀ o j, rwx o j → xqt o j := fun o j q => q.elim (fun w => Or.inr (Or.inl ⟨w.1, Or.inl w.2⟩)) (fun w => Or.inr (Or.inr (Or.inl w)))
theorem xs_journey (h : XS C A nT bT nU U ch K l M) :
    (∀ kk F, pJ bT nT = (nT, some (kk, F)) → ∃ M1, x_journey M = some (zn (jrJ C F kk 0 A 0).1, M1) ∧ Ge gxc M M1 ∧ XS C (jrJ C F kk 0 A 0).2.1 0 bT (pNJ (jrJ C F kk 0 A 0).1 nU) (pUJ (jrJ C F kk 0 A 0).1 nU U A) ch K (jlJ kk (jrJ C F kk 0 A 0)) M1 ∧ M1.n ≤ M.n + 500 ∧ M1.w ≤ M.w + 5000) ∧
    ((¬ ∃ kk F, pJ bT nT = (nT, some (kk, F))) → ∃ M1, x_journey M = some (-1 - zn (pJ bT nT).1, M1) ∧ Ge gxc M M1 ∧ XS C A 0 bT nU U ch K l M1 ∧ M1.n ≤ M.n + 500 ∧ M1.w ≤ M.w + 5000) := by
  have t1 := h.t.1.1
  obtain ⟨M1, e1, f1, i17, i19, X1, T1⟩ := xs_begins (m := 60) h.t h.x.sh (by omega)
  have e1' : x_begins 60 M = _ := e1
  obtain ⟨M2, hM2⟩ : ∃ M2, M2 = M1.si 20 47 0 := ⟨_, rfl⟩
  have f2 : Fq (fun o j => o = 20 ∧ j = 47) M1 M2 := by rw [hM2]; exact Fq.si (c := fun o j => o = 20 ∧ j = 47) Fq.rf ⟨rfl, rfl⟩
  obtain ⟨K4, hK4⟩ : ∃ K4 : Int32 → PM → Option (Int32 × PM), K4 = (fun (v13 : Int32) (M14 : PM) =>
    jn (fun (M15 : PM) =>
    lt (M15.si 20 67 0) fun M16 =>
    jn (fun (w1 : Int64) (M17 : PM) =>
    bd (x_tells w1 M17) fun _ M18 =>
    bd (x_tells (Int32.toInt64 (M18.i 20 48)) M18) fun _ M19 =>
    some (v13, M19)) fun j5 =>
    if (M16.i 20 47) ≤ v13 then (j5 0 M16)
    else (j5 1 M16)) fun j4 =>
    if v13 ≤ 0 then (j4 M14)
    else (bd (x_putsBy 52 M14) fun _ M20 =>
    j4 M20)) := ⟨_, rfl⟩
  have k4 : ∀ cnt N, K4 (zn cnt) N = if zn cnt ≤ 0 then tailX cnt N else bd (x_putsBy 52 N) fun _ M20 => tailX cnt M20 := fun cnt N => by
    rw [hK4]
    unfold tailX
    simp only [jn_u]
  obtain ⟨Kd, hKd⟩ : ∃ Kd : Int32 → PM → Option (Int32 × PM), Kd = (fun (v8 : Int32) (M7 : PM) => bd (x_faultOf (zn nT) v8 M7) fun v9 M8 => if 0 ≤ v9 then (bd (rd_becomes 52 21 M8) fun _ M9 => lt (M9.si 20 48 0) fun M10 => x_journey_L90 K4 FU 0 M10) else (some (v9, M8))) := ⟨_, rfl⟩
  have hun : x_journey M = x_journey_L24 (zn nT) Kd FU 1 (if zn nT ≤ 0 then 0 else 1) M2 := by
    unfold x_journey
    rw [bde e1', lt_u, ← hM2, lt_u, hKd, hK4]
  have hL : ∀ n v2 v3 M, x_journey_L24 (zn nT) Kd (n + 1) v2 v3 M = if v3 = 0 then Kd v2 M else bd (x_readsAct M) fun v4 M4 => if v4 = 0 then x_journey_L24 (zn nT) Kd n v4 0 M4 else bd (x_eats 59 M4) fun v6 M6 => if v6 = 0 then x_journey_L24 (zn nT) Kd n v4 0 M6 else x_journey_L24 (zn nT) Kd n v4 1 M6 := fun n v2 v3 M => by
    rw [x_journey_L24]
    simp only [jn_u]
  have X2 : XP bT (min nT 60) M2 := X1.fr f2 (by omega) (fun j => by omega)
  have j17 : M2.i 20 17 = zn 0 := (f2.i _ _ (by omega)).trans i17
  have j47 : M2.i 20 47 = zn 0 := by rw [hM2, si_i, if_pos ⟨rfl, rfl⟩]; rfl
  have hq : ∃ M3, x_journey M = Kd (isS (pJ bT nT).2) M3 ∧ Fq cjX M2 M3 ∧ XP bT (min nT 60) M3 ∧ M3.i 20 17 = zn (pJ bT nT).1 ∧ ∀ k' F', (pJ bT nT).2 = some (k', F') → xiJ k' F' M3 := by
    rw [hun]
    unfold pJ
    by_cases g : nT = 0
    · rw [if_pos g]
      refine ⟨M2, ?_, Fq.rf, X2, j17, fun k' F' w => ?_⟩
      · rw [g, if_pos (show zn 0 ≤ 0 by decide)]
        have := hL 29999 1 0 M2
        rw [if_pos rfl] at this
        rw [g] at this
        exact this
      · cases w; exact ⟨j47, fun i hi => absurd hi (Nat.not_lt_zero i)⟩
    · rw [if_neg g]
      have nz : ¬ zn nT ≤ 0 := by
        have := zn_le (a := nT) (b := 0) (by omega) (by omega)
        rw [show zn 0 = (0 : Int32) from rfl] at this
        rw [this]; omega
      rw [if_neg nz]
      obtain ⟨M3, e3, f3, X3, k3, -, r3⟩ := goXJ (b := bT) (e := min nT 60) (by omega) (x_journey_L24 (zn nT) Kd) Kd hL 100 0 dfJ 0 FU M2 1 (by omega) (FU_lt (by omega)) (by omega) (by omega) X2 j17 ⟨j47, fun i hi => absurd hi (Nat.not_lt_zero i)⟩
      exact ⟨M3, e3, f3, X3, k3, fun k' F' w => (r3 k' F' w).1⟩
  obtain ⟨M3, e3, f3, X3, j3, r3⟩ := hq
  have g3 := pJ_le bT nT
  have f123 : Fq xqt M M3 := ((f1.mo bgx_qt).tr (f2.mo (d := xqt) (fun o j q => Or.inl (Or.inl ⟨q.1, by omega⟩)))).tr (f3.mo cjX_qt)
  have T3 : TX 0 bT M3 := (T1.fr f2 (by omega) (fun j => by omega)).fr f3 (by unfold cjX; omega) (fun j => by unfold cjX; omega)
  have L3 : LX l M3 := ((h.lx.fr f1 (by unfold bgx; omega) (fun j => by unfold bgx; omega)).fr f2 (by omega) (fun j => by omega)).fr f3 (by unfold cjX; omega) (fun j => by unfold cjX; omega)
  have s3 : XS C A 0 bT nU U ch K l M3 := h.q f123 T3 L3
  have hok : ∀ q kk F, pJ bT nT = (q, some (kk, F)) → kk ≤ 20 ∧ ∀ i, i < kk → okJ (F i) := fun q kk F hG => pJ_ok hG
  generalize pJ bT nT = G at e3 j3 r3 g3 hok ⊢
  refine ⟨fun kk F hG => ?_, fun hG => ?_⟩
  · subst hG
    obtain ⟨b20, okF⟩ := hok _ _ _ rfl
    obtain ⟨x47, xF⟩ := r3 kk F rfl
    have ef := xs_faultOf (p := nT) X3 j3 g3 t1 true
    rw [if_pos ⟨rfl, rfl⟩] at ef
    obtain ⟨M4, e4, f4, v52⟩ := xs_becomes (RdS.of52 s3.x.sh) (RdS.of21 s3.x.sh) (by omega) s3.a
    have f4q : Fq xqt M3 M4 := f4.mo (fun o j q => Or.inl (rd52_ts o j q))
    obtain ⟨M5, hM5⟩ : ∃ M5, M5 = M4.si 20 48 0 := ⟨_, rfl⟩
    have f5 : Fq (fun o j => o = 20 ∧ j = 48) M4 M5 := by rw [hM5]; exact Fq.si (c := fun o j => o = 20 ∧ j = 48) Fq.rf ⟨rfl, rfl⟩
    have f45 : Fq xqt M3 M5 := f4q.tr (f5.mo (d := xqt) (fun o j q => Or.inl (Or.inl ⟨q.1, by omega⟩)))
    have s5 : XS C A 0 bT nU U ch K l M5 := s3.q f45 ((T3.fr f4 (by unfold rdc; omega) (fun j => by unfold rdc; omega)).fr f5 (by omega) (fun j => by omega)) ((L3.fr f4 (by unfold rdc; omega) (fun j => by unfold rdc; omega)).fr f5 (by omega) (fun j => by omega))
    have f45k : Fq (fun o j => rdc 52 o j ∨ (o = 20 ∧ j = 48)) M3 M5 := (f4.mo (fun o j q => Or.inl q)).tr (f5.mo (fun o j q => Or.inr q))
    obtain ⟨M6, e6, f6, v6, i6⟩ := xs_loopJ (F := F) (kk := kk) (by omega) K4 kk 0 A 0 FU M5 (by omega) (FU_lt (by omega)) s5.x s5.a s5.ok ((f45k.i _ _ (by unfold rdc; omega)).trans x47) (fun j hj => by
      obtain ⟨w1, w2, w3⟩ := xF j hj
      exact ⟨w1, (f45k.i _ _ (by unfold rdc; omega)).trans w2, (f45k.i _ _ (by unfold rdc; omega)).trans w3⟩) (by rw [hM5, si_i, if_pos ⟨rfl, rfl⟩])
    obtain ⟨ok6, c6⟩ := jrJ_ok (C := C) (F := F) s5.x.ok kk 0 A 0 s5.ok
    have x47' : M6.i 20 47 = zn kk := by rw [f6.i _ _ (by unfold jxc sxc ca rdc; omega), f45k.i _ _ (by unfold rdc; omega)]; exact x47
    have v52' : RvX 52 A M6 := (v52.fr f5 (fun o j q => by unfold rdc at q; omega)).fr f6 (fun o j q => by unfold rdc at q; unfold jxc sxc ca rdc; omega)
    generalize jrJ C F kk 0 A 0 = R at e6 v6 i6 ok6 c6 ⊢
    have s6 : XS C R.2.1 0 bT nU U ch K l M6 := s5.m (f6.mo jxc_xm) v6 ok6 (s5.t.fr f6 (by unfold jxc sxc ca rdc; omega) (fun j => by unfold jxc sxc ca rdc; omega)) (s5.lx.fr f6 (by unfold jxc sxc ca rdc; omega) (fun j => by unfold jxc sxc ca rdc; omega))
    have ff6 : Fq xmt M M6 := ((f123.tr f45).mo (fun o j q => Or.inl q)).tr (f6.mo jxc_xm)
    have hrun : x_journey M = K4 (zn R.1) M6 := by
      rw [e3, show isS (some (kk, F)) = bo true from rfl, hKd]
      simp only
      rw [bde ef, if_pos (by decide), bde e4, lt_u, ← hM5]
      exact e6
    unfold pNJ pUJ jlJ
    by_cases c0 : R.1 = 0
    · rw [if_pos c0, if_pos c0]
      obtain ⟨M7, e7, f7, l7⟩ := xs_tailJ (cnt := R.1) (kk := kk) (by omega) (by omega) x47' i6
      refine ⟨M7, ?_, (ff6.gxm).tr ((f7.mo rwx_qt).gx), s6.q (f7.mo rwx_qt) (s6.t.fr f7 (by unfold rwx; omega) (fun j => by unfold rwx; omega)) l7, ?_, ?_⟩
      · rw [hrun, k4, if_pos (by rw [c0]; decide)]; exact e7
      · rw [f7.1, ff6.1]; omega
      · rw [f7.2.1, ff6.2.1]; omega
    · rw [if_neg c0, if_neg c0]
      obtain ⟨M7, e7, g7, s7, n7, w7, i7⟩ := s6.put (s := 52) (Or.inr rfl) v52' s5.ok
      obtain ⟨M8, e8, f8, l8⟩ := xs_tailJ (M := M7) (cnt := R.1) (kk := kk) (sp := R.2.2) (by omega) (by omega) ((i7 47 (by omega)).trans x47') ((i7 48 (by omega)).trans i6)
      refine ⟨M8, ?_, ((ff6.gxm).tr g7).tr ((f8.mo rwx_qt).gx), s7.q (f8.mo rwx_qt) (s7.t.fr f8 (by unfold rwx; omega) (fun j => by unfold rwx; omega)) l8, ?_, ?_⟩
      · have nz : ¬ zn R.1 ≤ 0 := by
          have := zn_le (a := R.1) (b := 0) (by omega) (by omega)
          rw [show zn 0 = (0 : Int32) from rfl] at this
          rw [this]; omega
        rw [hrun, k4, if_neg nz, bde e7, e8]
      · have q1 := f8.1; have q2 := ff6.1; omega
      · have q1 := f8.2.1; have q2 := ff6.2.1; omega
  · have p8 : G.1 < 1000 := by omega
    have hv : ∃ g : Bool, isS G.2 = bo g ∧ ¬ (g = true ∧ G.1 = nT) := by
      rcases G with ⟨q, o⟩
      cases o with
      | none => exact ⟨false, rfl, fun w => Bool.noConfusion w.1⟩
      | some kf =>
        refine ⟨true, rfl, fun w => hG ⟨kf.1, kf.2, ?_⟩⟩
        have w2 : q = nT := w.2
        rw [w2]
    obtain ⟨g, hg1, hg2⟩ := hv
    have ef := xs_faultOf X3 j3 g3 t1 g
    rw [if_neg hg2] at ef
    refine ⟨M3, ?_, f123.gx, s3, f123.n5, f123.w5⟩
    rw [e3, hg1, hKd]
    simp only
    rw [bde ef, if_neg (m1p_neg p8)]
end
