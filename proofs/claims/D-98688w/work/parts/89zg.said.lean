set_option maxRecDepth 100000
/-! SAID: the call -/
def wrd (w : Nat) : Int64 := (zn w).toInt64
def fstW (l : List (List Nat)) : List Nat := (bs4 l).getD []
theorem map_nil_app (l : List (List Nat)) : l.map (([] : List Nat) ++ ·) = l := by
  show l.map (fun s => s) = l
  exact List.map_id' l
theorem sols_prr (C : SV) (L : Nat → Int32) : bs4 (prrS C L) = (solS C 1 0 L ++ (solS C 2 0 L ++ (solS C 3 0 L ++ solS C 4 0 L))).head? ∧ (prrS C L).length = (solS C 1 0 L ++ (solS C 2 0 L ++ (solS C 3 0 L ++ solS C 4 0 L))).length := by
  have e1 := prr_filter (zz := zzb) (tk := tkS C) (nw := C.nw) L 0 (by omega)
  have e2 := prr_filter (zz := zzb) (tk := tkS C) (nw := C.nw) L 1 (by omega)
  have e3 := prr_filter (zz := zzb) (tk := tkS C) (nw := C.nw) L 2 (by omega)
  have e4 := prr_filter (zz := zzb) (tk := tkS C) (nw := C.nw) L 3 (by omega)
  constructor
  · unfold bs4
    rw [e1, e2, e3, e4]
  · rw [l4_len (prrS C L) (prr_ok L), e1, e2, e3, e4]
section
variable {C : SV} {A : Nat → Int32} {M M1 : PM} {nT nU ch n s : Nat} {bT b : Nat → Nat} {U : Nat → Nat → Int32} {K : Nat → Bool × (Nat → Int32) × Nat} {l : List Int64}
theorem xs_tellW {s : List Nat} (h4 : s.length ≤ 4) (Kc : PM → Option (Int32 × PM)) : ∀ d i F l M, i + d = s.length → d < F → M.i 20 62 = zn s.length → (∀ j, j < s.length → M.i 68 j = zn (s.getD j 0)) → l.length + d ≤ 15 → LX l M → ∃ M', x_said_L102 Kc F (zn i) M = Kc M' ∧ Fq rwx M M' ∧ LX (l ++ (s.drop i).map wrd) M' := by
  intro d
  induction d with
  | zero =>
    intro i F l M hi hF h62 h68 hl hL
    obtain ⟨F, rfl⟩ : ∃ m, F = m + 1 := ⟨F - 1, by omega⟩
    rw [x_said_L102, h62, if_pos (by rw [zn_le (by omega) (by omega)]; omega)]
    refine ⟨M, rfl, Fq.rf, ?_⟩
    rw [List.drop_of_length_le (by omega), List.map_nil, List.append_nil]
    exact hL
  | succ d ih =>
    intro i F l M hi hF h62 h68 hl hL
    obtain ⟨F, rfl⟩ : ∃ m, F = m + 1 := ⟨F - 1, by omega⟩
    obtain ⟨M3, e3, f3, l3⟩ := xs_tells hL (by omega) (wrd (s.getD i 0))
    have e3' : x_tells (zn (s.getD i 0)).toInt64 M = _ := e3
    rw [x_said_L102, h62, if_neg (by rw [zn_le (by omega) (by omega)]; omega), ck_zn (by omega) (by omega), ix_zn (by omega), h68 i (by omega), bde e3', lt_u, zn_addl]
    obtain ⟨M4, e4, f4, l4⟩ := ih (i + 1) F (l ++ [wrd (s.getD i 0)]) M3 (by omega) (by omega) (by rw [f3.i _ _ (by unfold rwx; omega)]; exact h62) (fun j hj => by rw [f3.i _ _ (by unfold rwx; omega)]; exact h68 j hj) (by rw [List.length_append]; show l.length + 1 + d ≤ 15; omega) l3
    refine ⟨M4, e4, f3.tr f4, ?_⟩
    rw [drop_c (show i < s.length by omega), List.map_cons]
    rw [List.append_assoc] at l4
    exact l4
theorem ms_tellW {s : List Nat} (h4 : s.length ≤ 4) (Kc : PM → Option (Int32 × PM)) {w : Nat} (hw : 0 < w) (hw2 : w < 1000000) : ∀ d i F l M, i + d = s.length → d < F → M.i 72 48 = zn s.length → M.i 72 49 = zn w → (∀ j, j < s.length → M.i 99 j = zn (s.getD j 0)) → l.length + d ≤ 15 → LY l M → ∃ M', m_said_L70 Kc F (zn i) M = Kc M' ∧ Fq rwy M M' ∧ LY (l ++ (s.drop i).map wrd) M' := by
  intro d
  induction d with
  | zero =>
    intro i F l M hi hF h48 h49 h99 hl hL
    obtain ⟨F, rfl⟩ : ∃ m, F = m + 1 := ⟨F - 1, by omega⟩
    rw [m_said_L70]
    simp only [jn_u]
    rw [h48, if_pos (by rw [zn_le (by omega) (by omega)]; omega)]
    refine ⟨M, rfl, Fq.rf, ?_⟩
    rw [List.drop_of_length_le (by omega), List.map_nil, List.append_nil]
    exact hL
  | succ d ih =>
    intro i F l M hi hF h48 h49 h99 hl hL
    obtain ⟨F, rfl⟩ : ∃ m, F = m + 1 := ⟨F - 1, by omega⟩
    obtain ⟨M3, e3, f3, l3⟩ := ms_tell hL (by omega) (wrd (s.getD i 0))
    have e3' : m_tell (zn (s.getD i 0)).toInt64 M = _ := e3
    have nz : ¬ zn w ≤ 0 := by
      have := zn_le (a := w) (b := 0) (by omega) (by omega)
      rw [show zn 0 = (0 : Int32) from rfl] at this
      rw [this]; omega
    rw [m_said_L70]
    simp only [jn_u]
    rw [h48, if_neg (by rw [zn_le (by omega) (by omega)]; omega), h49, if_neg nz, ck_zn (by omega) (by omega), ix_zn (by omega), h99 i (by omega), bde e3', lt_u, zn_addl]
    obtain ⟨M4, e4, f4, l4⟩ := ih (i + 1) F (l ++ [wrd (s.getD i 0)]) M3 (by omega) (by omega) (by rw [f3.i _ _ (by unfold rwy; omega)]; exact h48) (by rw [f3.i _ _ (by unfold rwy; omega)]; exact h49) (fun j hj => by rw [f3.i _ _ (by unfold rwy; omega)]; exact h99 j hj) (by rw [List.length_append]; show l.length + 1 + d ≤ 15; omega) l3
    refine ⟨M4, e4, f3.tr f4, ?_⟩
    rw [drop_c (show i < s.length by omega), List.map_cons]
    rw [List.append_assoc] at l4
    exact l4
/-- the lengths one by one -/
theorem xs_lens {L : Nat → Int32} (h : CX C M) (ho : okL 4 L) (hL : ∀ v, v < 5 → M.i 66 v = L v) (h61 : M.i 20 61 = 0) (h62 : M.i 20 62 = 0) (Kc : PM → Option (Int32 × PM)) : ∃ M', x_said_L77 Kc FU 1 M = Kc M' ∧ Fq sfX M M' ∧ SX (solS C 1 0 L ++ (solS C 2 0 L ++ (solS C 3 0 L ++ solS C 4 0 L))) M' := by
  have hC := h.ok
  have hlen := (sols_prr C L).2
  have hA := (prr_AOK hC L).1
  rw [hlen] at hA
  simp only [List.length_append] at hA
  have one : ∀ d F acc M, 1 ≤ d → d ≤ 4 → CX C M → (∀ v, v < 5 → M.i 66 v = L v) → okL d L → SX acc M → (acc ++ solS C d 0 L).length < 1000000 → ∃ M', x_said_L77 Kc (F + 1) (zn d) M = x_said_L77 Kc F (zn (d + 1)) M' ∧ Fq sfX M M' ∧ (∀ v, v < 5 → M'.i 66 v = L v) ∧ SX (acc ++ solS C d 0 L) M' := by
    intro d F acc M hd1 hd4 h hL ho hS hl
    obtain ⟨M2, e2, f2, L2, -, S2⟩ := xs_sf hC d 120 0 acc [] L M (by omega) (by show 0 + d ≤ 4; omega) (Nat.zero_le _) h hL ho (fun i hi => absurd hi (Nat.not_lt_zero i)) hS (by rw [map_nil_app]; exact hl)
    rw [map_nil_app] at S2
    refine ⟨M2, ?_, f2, L2, S2⟩
    have e2' : x_saysFrom 0 (zn d) 0 M = some ((), M2) := by
      show G_x_saysFrom 120 0 (zn d) 0 M = _
      rw [show ([] : List Nat).length + d = d by simp] at e2
      exact e2
    rw [x_said_L77, if_neg (by rw [l_lt_zn (by omega) (by omega)]; omega), bde e2', lt_u, zn_addl]
  have ok : ∀ d, d ≤ 4 → okL d L := fun d hd v hv => by
    have := ho v hv
    omega
  obtain ⟨M2, e2, f2, L2, S2⟩ := one 1 29999 [] M (by omega) (by omega) h hL (ok 1 (by omega)) ⟨h61, fun _ => h62, fun s e => by cases e⟩ (by rw [List.nil_append]; omega)
  have x2 := h.sf f2
  obtain ⟨M3, e3, f3, L3, S3⟩ := one 2 29998 _ M2 (by omega) (by omega) x2 L2 (ok 2 (by omega)) S2 (by rw [List.nil_append, List.length_append]; omega)
  have x3 := x2.sf f3
  obtain ⟨M4, e4, f4, L4, S4⟩ := one 3 29997 _ M3 (by omega) (by omega) x3 L3 (ok 3 (by omega)) S3 (by rw [List.nil_append, List.length_append, List.length_append]; omega)
  have x4 := x3.sf f4
  obtain ⟨M5, e5, f5, L5, S5⟩ := one 4 29996 _ M4 (by omega) (by omega) x4 L4 (ok 4 (by omega)) S4 (by rw [List.nil_append, List.length_append, List.length_append, List.length_append]; omega)
  refine ⟨M5, ?_, ((f2.tr f3).tr f4).tr f5, ?_⟩
  · show x_said_L77 Kc (29999 + 1) (zn 1) M = _
    rw [e2]
    show x_said_L77 Kc (29998 + 1) (zn 2) M2 = _
    rw [e3]
    show x_said_L77 Kc (29997 + 1) (zn 3) M3 = _
    rw [e4]
    show x_said_L77 Kc (29996 + 1) (zn 4) M4 = _
    rw [e5]
    show x_said_L77 Kc (29995 + 1) (zn 5) M5 = _
    rw [x_said_L77, if_pos (by decide)]
  · rw [List.nil_append, List.append_assoc, List.append_assoc] at S5
    exact S5
abbrev Ldg (bT : Nat → Nat) : Nat → Int32 := fun v => zn (bT v - 48)
theorem fdX_qt (o j : Nat) (q : fdX o j) : xqt o j := Or.inl (by rcases q with q | q <;> (unfold ts; omega))
theorem fdY_qt (o j : Nat) (q : fdY o j) : yqt o j := Or.inl (by rcases q with q | q <;> (unfold ts; omega))
theorem sfX_qt (o j : Nat) (q : sfX o j) : xqt o j := Or.inl (by rcases q with q | q <;> (unfold ts; omega))
theorem sfY_qt (o j : Nat) (q : sfY o j) : yqt o j := Or.inl (by rcases q with q | q <;> (unfold ts; omega))
theorem fst_ok {l : List (List Nat)} (h : AOK l) : (fstW l).length ≤ 4 := by
  unfold fstW
  rcases e : bs4 l with _ | s
  · exact Nat.zero_le _
  · exact (h.2.1 s (bs4_mem e)).1.2
theorem xs_said (h : XS C A nT bT nU U ch K l M) :
    ((fvd bT nT 5 0 = 5 ∧ nT ≤ 5) → ∃ M1, x_said M = some (zn (prrS C (Ldg bT)).length, M1) ∧ Ge gxc M M1 ∧ XS C A 0 bT nU U ch K ((fstW (prrS C (Ldg bT))).map wrd) M1 ∧ M1.n ≤ M.n + 500 ∧ M1.w ≤ M.w + 5000) ∧
    (¬ (fvd bT nT 5 0 = 5 ∧ nT ≤ 5) → ∃ M1, x_said M = some (-1 - zn (fvd bT nT 5 0), M1) ∧ Ge gxc M M1 ∧ XS C A 0 bT nU U ch K l M1 ∧ M1.n ≤ M.n + 500 ∧ M1.w ≤ M.w + 5000) := by
  have t1 := h.t.1.1
  have hC := h.x.ok
  have hf5 := fvd_ok bT nT 5 0
  obtain ⟨M1, e1, f1, i17, i19, X1, T1⟩ := xs_begins (m := 80) h.t h.x.sh (by omega)
  have e1' : x_begins 80 M = _ := e1
  rw [Nat.min_eq_left t1] at X1
  have s1 : XS C A 0 bT nU U ch K l M1 := h.q (f1.mo bgx_qt) T1 (h.lx.fr f1 (by unfold bgx; omega) (fun j => by unfold bgx; omega))
  obtain ⟨Kb, hKb⟩ : ∃ Kb : PM → Option (Int32 × PM), Kb = (fun (M14 : PM) => some ((M14.i 20 61), M14)) := ⟨_, rfl⟩
  obtain ⟨Ka, hKa⟩ : ∃ Ka : PM → Option (Int32 × PM), Ka = (fun (M10 : PM) => lt (M10.si 20 67 0) fun M11 => x_said_L102 Kb FU 0 M11) := ⟨_, rfl⟩
  obtain ⟨Kd, hKd⟩ : ∃ Kd : PM → Option (Int32 × PM), Kd = (fun (M5 : PM) => if (M5.i 20 18) ≤ (M5.i 20 17) then (lt (M5.si 20 61 0) fun M6 => lt (M6.si 20 62 0) fun M7 => x_said_L77 Ka FU 1 M7) else (some (((-1) - (M5.i 20 17)), M5))) := ⟨_, rfl⟩
  obtain ⟨Ke, hKe⟩ : ∃ Ke : PM → Option (Int32 × PM), Ke = (fun (M15 : PM) => some (((-1) - (M15.i 20 17)), M15)) := ⟨_, rfl⟩
  have hun : x_said M = x_said_L9 Kd Ke FU 0 M1 := by
    unfold x_said
    rw [bde e1', hKd, hKa, hKb, hKe]
  obtain ⟨M2, e2, f2, X2, j17, j66⟩ := xs_five (b := bT) (n := nT) t1 Kd Ke 5 0 FU M1 (by omega) (FU_lt (by omega)) X1 i17 (fun i hi => absurd hi (Nat.not_lt_zero i))
  have e2' : x_said_L9 Kd Ke FU 0 M1 = _ := e2
  have f2q := f2.mo fdX_qt
  have s2 : XS C A 0 bT nU U ch K l M2 := s1.q f2q (s1.t.fr f2 (by unfold fdX; omega) (fun j => by unfold fdX; omega)) (s1.lx.fr f2 (by unfold fdX; omega) (fun j => by unfold fdX; omega))
  have ff : Fq xqt M M2 := (f1.mo bgx_qt).tr f2q
  refine ⟨fun g => ?_, fun g => ?_⟩
  · rw [if_pos g.1] at e2'
    rw [g.1] at j17
    have L2 := j66 g.1
    have n5 : nT = 5 := by have := hf5.2.2 (Nat.zero_le _); omega
    obtain ⟨N, hN⟩ : ∃ N, N = (M2.si 20 61 0).si 20 62 0 := ⟨_, rfl⟩
    have fN : Fq (fun o j => o = 20 ∧ (j = 61 ∨ j = 62)) M2 N := by
      rw [hN]
      exact Fq.si (c := fun o j => o = 20 ∧ (j = 61 ∨ j = 62)) (Fq.si (c := fun o j => o = 20 ∧ (j = 61 ∨ j = 62)) Fq.rf ⟨rfl, Or.inl rfl⟩) ⟨rfl, Or.inr rfl⟩
    have fNs : Fq sfX M2 N := fN.mo (fun o j q => Or.inl q)
    have sN : XS C A 0 bT nU U ch K l N := s2.q (fNs.mo sfX_qt) (s2.t.fr fN (by omega) (fun j => by omega)) (s2.lx.fr fN (by omega) (fun j => by omega))
    obtain ⟨M3, e3, f3, S3⟩ := xs_lens (L := Ldg bT) sN.x (fun v hv => by
      have := h.t.1.2 v
      rw [show Ldg bT v = zn (bT v - 48) from rfl, zn_int (by omega)]
      omega) (fun v hv => by rw [fN.i _ _ (by omega)]; exact L2 v hv) (by rw [hN, si_i, if_neg (by omega), si_i, if_pos ⟨rfl, rfl⟩]) (by rw [hN, si_i, if_pos ⟨rfl, rfl⟩]) Ka
    have s3 : XS C A 0 bT nU U ch K l M3 := sN.q (f3.mo sfX_qt) (sN.t.fr f3 (by unfold sfX; omega) (fun j => by unfold sfX; omega)) (sN.lx.fr f3 (by unfold sfX; omega) (fun j => by unfold sfX; omega))
    obtain ⟨p1, p2⟩ := sols_prr C (Ldg bT)
    obtain ⟨q1, q2, q3⟩ := S3
    rw [← p2] at q1
    rw [← p1] at q3
    have hA := prr_AOK hC (Ldg bT)
    have h4 := fst_ok hA
    have fz : Fq (fun o j => o = 20 ∧ j = 67) M3 (M3.si 20 67 0) := Fq.si (c := fun o j => o = 20 ∧ j = 67) Fq.rf ⟨rfl, rfl⟩
    have fzq : Fq xqt M3 (M3.si 20 67 0) := fz.mo (d := xqt) (fun o j q => Or.inr (Or.inl ⟨q.1, Or.inl q.2⟩))
    have sz : XS C A 0 bT nU U ch K [] (M3.si 20 67 0) := s3.q fzq (s3.t.fr fz (by omega) (fun j => by omega)) (lx0 M3)
    have w62 : M3.i 20 62 = zn (fstW (prrS C (Ldg bT))).length ∧ ∀ j, j < (fstW (prrS C (Ldg bT))).length → M3.i 68 j = zn ((fstW (prrS C (Ldg bT))).getD j 0) := by
      unfold fstW
      rcases e : bs4 (prrS C (Ldg bT)) with _ | s
      · refine ⟨?_, fun j hj => absurd hj (Nat.not_lt_zero j)⟩
        rw [e] at p1
        exact q2 (List.head?_eq_none_iff.mp p1.symm)
      · exact q3 s e
    obtain ⟨M5, e5, f5, l5⟩ := xs_tellW h4 Kb (fstW (prrS C (Ldg bT))).length 0 FU [] (M3.si 20 67 0) (by omega) (FU_lt (by omega)) (by rw [fz.i _ _ (by omega)]; exact w62.1) (fun j hj => by rw [fz.i _ _ (by omega)]; exact w62.2 j hj) (by show 0 + _ ≤ 15; omega) (lx0 M3)
    have e5' : x_said_L102 Kb FU 0 (M3.si 20 67 0) = _ := e5
    have f5q : Fq xqt (M3.si 20 67 0) M5 := f5.mo (rwx_qt)
    have fall : Fq xqt M M5 := (((ff.tr (fNs.mo sfX_qt)).tr (f3.mo sfX_qt)).tr fzq).tr f5q
    rw [List.nil_append, List.drop_zero] at l5
    refine ⟨M5, ?_, fall.gx, sz.q f5q (sz.t.fr f5 (by unfold rwx; omega) (fun j => by unfold rwx; omega)) l5, fall.n5, fall.w5⟩
    rw [hun, e2', hKd]
    simp only [lt_u]
    rw [X2.2.1, j17, if_pos (by rw [zn_le (by omega) (by omega)]; omega), ← hN, e3, hKa]
    simp only [lt_u]
    rw [e5', hKb]
    show some (M5.i 20 61, M5) = _
    rw [f5.i _ _ (by unfold rwx; omega), fz.i _ _ (by omega), q1]
  · refine ⟨M2, ?_, ff.gx, s2, ff.n5, ff.w5⟩
    rw [hun, e2']
    by_cases g5 : fvd bT nT 5 0 = 5
    · rw [if_pos g5, hKd]
      simp only [lt_u]
      rw [X2.2.1, j17, if_neg (by rw [zn_le (by omega) (by omega)]; omega)]
    · rw [if_neg g5, hKe]
      show some (-1 - M2.i 20 17, M2) = _
      rw [j17]
theorem ys_said (h : YS C A nT bT nU U ch K l M) :
    ((fvd bT nT 5 0 = 5 ∧ nT ≤ 5) → ∃ M1, m_said M = some (zn (prrS C (Ldg bT)).length, M1) ∧ Fq gyc M M1 ∧ YS C A 0 bT nU U ch K ((fstW (prrS C (Ldg bT))).map wrd) M1) ∧
    (¬ (fvd bT nT 5 0 = 5 ∧ nT ≤ 5) → ∃ M1, m_said M = some (-1 - zn (fvd bT nT 5 0), M1) ∧ Fq gyc M M1 ∧ YS C A 0 bT nU U ch K l M1) := by
  have t1 := h.t.1.1
  have hC := h.y.ok
  have hf5 := fvd_ok bT nT 5 0
  have f0 : Fq (fun o j => o = 72 ∧ j = 13) M (M.si 72 13 0) := Fq.si (c := fun o j => o = 72 ∧ j = 13) Fq.rf ⟨rfl, rfl⟩
  have q0 : Fq yqt M (M.si 72 13 0) := f0.mo (d := yqt) (fun o j q => Or.inr (Or.inl ⟨q.1, Or.inr (Or.inl q.2)⟩))
  have s0 : YS C A nT bT nU U ch K l (M.si 72 13 0) := h.q q0 (h.t.fr f0 (by omega) (fun j => by omega)) (h.ly.fr f0 (by omega) (fun j => by omega))
  obtain ⟨M1, e1, f1, i17, i15, X1, T1⟩ := ms_beginText (m := 80) s0.t s0.y.sh (by omega)
  have e1' : m_beginText 80 (M.si 72 13 0) = _ := e1
  rw [Nat.min_eq_left t1] at X1
  have s1 : YS C A 0 bT nU U ch K l M1 := s0.q (f1.mo bgy_qt) T1 (s0.ly.fr f1 (by unfold bgy; omega) (fun j => by unfold bgy; omega))
  obtain ⟨Kb, hKb⟩ : ∃ Kb : PM → Option (Int32 × PM), Kb = (fun (M14 : PM) => some ((M14.i 72 49), M14)) := ⟨_, rfl⟩
  obtain ⟨Kd, hKd⟩ : ∃ Kd : PM → Option (Int32 × PM), Kd = (fun (M6 : PM) => bd (m_wasRight M6) fun v4 M7 => if v4 = 0 then (some (((-1) - (M7.i 72 18)), M7)) else (lt (M7.si 72 49 0) fun M8 => bd (m_goSaid 0 0 M8) fun _ M9 => lt (M9.si 72 12 0) fun M10 => m_said_L70 Kb FU 0 M10)) := ⟨_, rfl⟩
  have hun : m_said M = m_said_L13 Kd FU 0 M1 := by
    unfold m_said
    rw [lt_u, bde e1', hKd, hKb]
  obtain ⟨M2, e2, f2, r2⟩ := ms_five (b := bT) (n := nT) t1 Kd 5 0 FU M1 (by omega) (FU_lt (by omega)) X1 i17 (fun i hi => absurd hi (Nat.not_lt_zero i))
  have e2' : m_said_L13 Kd FU 0 M1 = _ := e2
  have f2q := f2.mo fdY_qt
  have s2 : YS C A 0 bT nU U ch K l M2 := s1.q f2q (s1.t.fr f2 (by unfold fdY; omega) (fun j => by unfold fdY; omega)) (s1.ly.fr f2 (by unfold fdY; omega) (fun j => by unfold fdY; omega))
  have ff : Fq yqt M M2 := (q0.tr (f1.mo bgy_qt)).tr f2q
  have j15 : M2.i 72 15 = zn nT := by rw [f2.i _ _ (by unfold fdY; omega)]; exact i15
  refine ⟨fun g => ?_, fun g => ?_⟩
  · rcases r2 with ⟨-, R2, j17, L2⟩ | ⟨w, -⟩
    · have n5 : nT = 5 := by have := hf5.2.2 (Nat.zero_le _); omega
      have ew := wr_ok R2 j17 j15 (by omega) (by omega)
      obtain ⟨N, hN⟩ : ∃ N, N = M2.si 72 49 0 := ⟨_, rfl⟩
      have fN : Fq (fun o j => o = 72 ∧ j = 49) M2 N := by rw [hN]; exact Fq.si (c := fun o j => o = 72 ∧ j = 49) Fq.rf ⟨rfl, rfl⟩
      have fNs : Fq sfY M2 N := fN.mo (fun o j q => Or.inl ⟨q.1, Or.inr q.2⟩)
      have sN : YS C A 0 bT nU U ch K l N := s2.q (fNs.mo sfY_qt) (s2.t.fr fN (by omega) (fun j => by omega)) (s2.ly.fr fN (by omega) (fun j => by omega))
      obtain ⟨M3, e3, f3, S3⟩ := ms_goSaid (L := Ldg bT) sN.y (fun v hv => by rw [fN.i _ _ (by omega)]; exact L2 v hv) (by rw [hN, si_i, if_pos ⟨rfl, rfl⟩])
      have s3 : YS C A 0 bT nU U ch K l M3 := sN.q (f3.mo sfY_qt) (sN.t.fr f3 (by unfold sfY; omega) (fun j => by unfold sfY; omega)) (sN.ly.fr f3 (by unfold sfY; omega) (fun j => by unfold sfY; omega))
      have hA := prr_AOK hC (Ldg bT)
      have h4 := fst_ok hA
      obtain ⟨q1, q2⟩ := S3
      have fz : Fq (fun o j => o = 72 ∧ j = 12) M3 (M3.si 72 12 0) := Fq.si (c := fun o j => o = 72 ∧ j = 12) Fq.rf ⟨rfl, rfl⟩
      have fzq : Fq yqt M3 (M3.si 72 12 0) := fz.mo (d := yqt) (fun o j q => Or.inr (Or.inl ⟨q.1, Or.inl q.2⟩))
      have sz : YS C A 0 bT nU U ch K [] (M3.si 72 12 0) := s3.q fzq (s3.t.fr fz (by omega) (fun j => by omega)) (ly0 M3)
      have htell : ∃ M5, m_said_L70 Kb FU 0 (M3.si 72 12 0) = Kb M5 ∧ Fq rwy (M3.si 72 12 0) M5 ∧ LY ((fstW (prrS C (Ldg bT))).map wrd) M5 := by
        have z49 : (M3.si 72 12 0).i 72 49 = zn (prrS C (Ldg bT)).length := by rw [fz.i _ _ (by omega)]; exact q1
        rcases e : bs4 (prrS C (Ldg bT)) with _ | s
        · have e0 : prrS C (Ldg bT) = [] := Classical.byContradiction fun q => by
            obtain ⟨b, hb⟩ := bs4_none (fun s hs => (hA.2.1 s hs).1) q
            rw [e] at hb; cases hb
          refine ⟨M3.si 72 12 0, ?_, Fq.rf, ?_⟩
          · show m_said_L70 Kb (29999 + 1) 0 _ = _
            rw [m_said_L70]
            simp only [jn_u]
            rw [z49, e0]
            by_cases g2 : (M3.si 72 12 0).i 72 48 ≤ 0
            · rw [if_pos g2]
            · rw [if_neg g2, if_pos (by decide)]
          · unfold fstW
            rw [e]
            exact ly0 M3
        · obtain ⟨t1, t2⟩ := q2 s e
          have ef : fstW (prrS C (Ldg bT)) = s := by unfold fstW; rw [e]; rfl
          rw [ef] at h4 ⊢
          have hp : 0 < (prrS C (Ldg bT)).length := by
            have := bs4_mem e
            rcases e9 : prrS C (Ldg bT) with _ | ⟨a, t⟩
            · rw [e9] at this; cases this
            · exact Nat.succ_pos _
          obtain ⟨M5, e5, f5, l5⟩ := ms_tellW h4 Kb hp hA.1 s.length 0 FU [] (M3.si 72 12 0) (by omega) (FU_lt (by omega)) (by rw [fz.i _ _ (by omega)]; exact t1) z49 (fun j hj => by rw [fz.i _ _ (by omega)]; exact t2 j hj) (by show 0 + _ ≤ 15; omega) (ly0 M3)
          rw [List.nil_append, List.drop_zero] at l5
          exact ⟨M5, e5, f5, l5⟩
      obtain ⟨M5, e5, f5, l5⟩ := htell
      have f5q : Fq yqt (M3.si 72 12 0) M5 := f5.mo (rwy_qt)
      have fall : Fq yqt M M5 := (((ff.tr (fNs.mo sfY_qt)).tr (f3.mo sfY_qt)).tr fzq).tr f5q
      refine ⟨M5, ?_, fall.gy, sz.q f5q (sz.t.fr f5 (by unfold rwy; omega) (fun j => by unfold rwy; omega)) l5⟩
      rw [hun, e2', hKd]
      simp only [lt_u]
      rw [bde ew, if_neg (show ¬ (1 : Int32) = 0 by decide), ← hN, bde e3, e5, hKb]
      show some (M5.i 72 49, M5) = _
      rw [f5.i _ _ (by unfold rwy; omega), fz.i _ _ (by omega), q1]
    · exact absurd g.1 w
  · rcases r2 with ⟨w, R2, j17, L2⟩ | ⟨w, j18⟩
    · have ew := wr_at R2 j17 j15 (by omega) (by omega)
      have fw : Fq fdY M2 (Mw M2 5) := (Mw.fq M2 5).mo (fun o j q => Or.inr q)
      have fwq := fw.mo fdY_qt
      have fall := ff.tr fwq
      refine ⟨Mw M2 5, ?_, fall.gy, s2.q fwq (s2.t.fr fw (by unfold fdY; omega) (fun j => by unfold fdY; omega)) (s2.ly.fr fw (by unfold fdY; omega) (fun j => by unfold fdY; omega))⟩
      rw [hun, e2', hKd]
      simp only [lt_u]
      rw [bde ew, if_pos rfl, Mw.i18, w]
    · have ew := wr_f (show fvd bT nT 5 0 < 1000 by omega) j18
      refine ⟨M2, ?_, ff.gy, s2⟩
      rw [hun, e2', hKd]
      simp only [lt_u]
      rw [bde ew, if_pos rfl, j18]
theorem call_said : Call x_said m_said := by
  refine Call.xy (fun C A nT bT nU U ch K l hC hA h15 ht => ?_)
  by_cases g : fvd bT nT 5 0 = 5 ∧ nT ≤ 5
  · have h4 := fst_ok (prr_AOK hC (Ldg bT))
    exact ⟨zn (prrS C (Ldg bT)).length, C, A, 0, bT, nU, U, K, (fstW (prrS C (Ldg bT))).map wrd, by rw [List.length_map]; omega, fun M h => (xs_said h).1 g, fun M h => (ys_said h).1 g⟩
  · exact ⟨-1 - zn (fvd bT nT 5 0), C, A, 0, bT, nU, U, K, l, h15, fun M h => (xs_said h).2 g, fun M h => (ys_said h).2 g⟩
end
