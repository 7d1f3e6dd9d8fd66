set_option maxRecDepth 100000
section
variable {C : SV} {A A' B : Nat → Int32} {M M1 M2 N : PM} {nT nU nU' ch a : Nat} {bT : Nat → Nat} {U U' : Nat → Nat → Int32} {K : Nat → Bool × (Nat → Int32) × Nat} {l l' : List Int64}
/-- the road behind it, alike -/
theorem CY.rc (h : CY 83 C M) (f : Fq rcl M M1) : CY 83 C M1 := h.fr f (by decide +kernel) (fun o j q => by unfold rcl; omega)
theorem RV.yx (h : RV C A nT bT nU U ch K l M) (ha : M.n ≤ a ∨ ((105 ≤ a ∧ a + 4 < M.n) ∧ RdS M a)) (f : Ge (xm a) M M1) : CY 83 C M1 ∧ RvY 73 A M1 ∧ UY nU U M1 ∧ LY l M1 := by
  obtain ⟨⟨a1, a2, a3⟩, ⟨b1, b2, b3⟩, ⟨c1, c2⟩, ⟨d1, d2⟩, ⟨e1, e2⟩, ⟨l1, l2, l3⟩, k1⟩ := h
  have h0 := a1.sh.1
  have a105 : 105 ≤ a := by omega
  have sh1 := sh_xm a105
  exact ⟨a2.ge f sh1 (fun o j q => by unfold xm ts pcl rdc; omega), b2.ge (by omega) f (fun j => by unfold xm ts pcl rdc; omega), d2.ge h0 f (fun j => by unfold xm ts pcl rdc; omega) (by unfold xm ts pcl rdc; omega), l2.ge h0 f (by unfold xm ts pcl rdc; omega) (fun j => by unfold xm ts pcl rdc; omega)⟩
/-- the hour moved on -/
def hrA (A : Nat → Int32) (p : Int32) : Nat → Int32 := fun j => if j = 12 then A 12 + p else A j
theorem rx_hr (h : RvX 21 A M) (p : Int32) : RvX 21 (hrA A p) (M.si 21 4 (M.i 21 4 + p)) := by
  obtain ⟨h1, h2, h3, h4⟩ := h
  refine ⟨fun t ht => ?_, ?_, ?_, fun k hk => ?_⟩
  · obtain ⟨u1, u2, u3⟩ := h1 t ht
    unfold hrA
    rw [if_neg (by omega), if_neg (by omega), if_neg (by omega), si_i, if_neg (by omega), si_i, if_neg (by omega), si_i, if_neg (by omega)]
    exact ⟨u1, u2, u3⟩
  · unfold hrA
    rw [si_i, if_pos ⟨rfl, rfl⟩, if_pos rfl, h2]
  · unfold hrA
    rw [si_i, if_neg (by omega), if_neg (by omega)]; exact h3
  · unfold hrA
    rw [si_i, if_neg (by omega), if_neg (by omega)]; exact h4 k hk
theorem ry_hr (h : RvY 73 A M) (p : Int32) : RvY 73 (hrA A p) (M.si 73 12 (M.i 73 12 + p)) := by
  intro j hj
  unfold hrA
  rw [si_i]
  by_cases e : j = 12
  · rw [if_pos ⟨rfl, e⟩, if_pos e, hy12 h]
  · rw [if_neg (by omega), if_neg e]; exact h j hj
theorem ok_hr (h : OKA C A) (hC : OKC C) (p : Int32) : OKA C (hrA A p) := by
  have := hC.nt4
  refine ⟨fun t ht => ?_, ?_, fun t ht => ?_⟩
  · unfold hrA
    rw [if_neg (by omega)]; exact h.1 t ht
  · unfold hrA
    rw [if_neg (by omega)]; exact h.2.1
  · unfold hrA
    rw [if_neg (by omega)]; exact h.2.2 t ht
theorem call_pause (p : Int32) : Call (x_pause p) (m_pause p) := by
  rintro kb M ⟨C, A, nT, bT, nU, U, ch, K, l, hR⟩
  have hx := hR.x
  have h0 := hx.sh.1
  rcases dl_or (n := 99) (by omega) p with ⟨x, hx9, rfl⟩ | hn
  · have u1 : x_pause (zn x) M = (jn (fun (M2 : PM) => lt (M2.si 21 4 ((M2.i 21 4) + zn x)) fun M3 => some ((M3.i 21 4), M3)) fun j1 => if zn x ≤ 0 then (j1 M) else (bd (x_putsBy 21 M) fun _ M4 => j1 M4)) := by
      unfold x_pause
      rw [bde (xt_99 hx9 M), if_neg (by decide)]
    have u2 : ∀ N : PM, m_pause (zn x) N = (jn (fun (M3 : PM) => ck 12 44 <| ck 12 44 <| lt (M3.si 73 (ix 12) ((M3.i 73 (ix 12)) + zn x)) fun M4 => ck 12 44 <| some ((M4.i 73 (ix 12)), M4)) fun j1 => if zn x ≤ 0 then (j1 (N.si 72 13 0)) else (bd (m_remember 73 (N.si 72 13 0)) fun _ M5 => j1 M5)) := fun N => by
      unfold m_pause
      rw [lt_u, bde (mt_99 hx9 _), if_neg (by decide)]
    by_cases x0 : zn x ≤ 0
    · have f1 : Fq x0c M (M.si 21 4 (M.i 21 4 + zn x)) := Fq.si (c := x0c) Fq.rf (Or.inr (Or.inl ⟨rfl, Or.inl rfl⟩))
      obtain ⟨q1, q2, q3, q4, q5⟩ := hR.x0 f1
      have G1 : Ge (xm (M.n)) M (M.si 21 4 (M.i 21 4 + zn x)) := (f1.mo (d := xm M.n) (fun o j q => q.elim (fun w => Or.inl w) (fun w => Or.inr (Or.inr (Or.inr (Or.inl w)))))).ge
      obtain ⟨y1, b1, v1, l1⟩ := hR.yx (Or.inl (Nat.le_refl _)) G1
      obtain ⟨M1, hM1⟩ : ∃ M1, M1 = M.si 21 4 (M.i 21 4 + zn x) := ⟨_, rfl⟩
      rw [← hM1] at f1 q1 q2 q3 q4 q5 G1 y1 b1 v1 l1
      have ra : RvX 21 (hrA A (zn x)) M1 := by rw [hM1]; exact rx_hr hR.a _
      have g1 : Fq ym M1 ((M1.si 72 13 0).si 73 12 ((M1.si 72 13 0).i 73 12 + zn x)) := (Fq.si (c := ym) (Fq.si (c := ym) Fq.rf (Or.inr (Or.inl ⟨rfl, Or.inr rfl⟩))) (Or.inr (Or.inr (Or.inr (Or.inl rfl)))))
      have b2 := ry_hr (b1.fy f13) (zn x)
      refine ⟨A 12 + zn x, M1, _, ?_, ?_, ⟨C, hrA A (zn x), nT, bT, nU, U, ch, K, l, hR.mut (Or.inl (Nat.le_refl _)) G1 ra q3 q2 q4 q5 g1 b2 (v1.fr (c := fun o j => (o = 72 ∧ j = 13) ∨ o = 73) ((Fq.rf.si (Or.inl ⟨rfl, rfl⟩)).si (Or.inr rfl)) (fun j => by omega) (by omega)) (l1.fr (c := fun o j => (o = 72 ∧ j = 13) ∨ o = 73) ((Fq.rf.si (Or.inl ⟨rfl, rfl⟩)).si (Or.inr rfl)) (by omega) (fun j => by omega)) (ok_hr hR.ok hx.ok _) hR.l15⟩, ?_, ?_⟩
      · rw [u1, jn_u, if_pos x0]
        show lt _ _ = _
        rw [lt_u, ← hM1, ra.2.1]
        rfl
      · rw [u2, jn_u, if_pos x0]
        show ck 12 44 _ = _
        rw [ck12, ck12, lt_u, ck12, ix12, hy12 b2]
        rfl
      · rw [hM1]; show M.n ≤ M.n + 500; omega
      · rw [hM1]; show M.w ≤ M.w + 5000; omega
    · obtain ⟨M4, a, e4, G4, ca4, n4, w4, D4, U4, K4⟩ := xs_putsBy hx hR.2.2.2.2.2.2 hR.2.2.2.1.1 hR.2.2.2.2.1.1 (Or.inl rfl) (RdS.of21 hx.sh) hR.a hR.ok
      have a105 : 105 ≤ a := by omega
      have ra4 : RvX 21 A M4 := hR.a.ge (by omega) G4 (fun o j q => by unfold rdc at q; unfold pcl rdc; omega)
      have lx4 : LX l M4 := hR.lx.ge h0 G4 (by unfold pcl rdc; omega) (fun j => by unfold pcl rdc; omega)
      obtain ⟨M1, hM1⟩ : ∃ M1, M1 = M4.si 21 4 (M4.i 21 4 + zn x) := ⟨_, rfl⟩
      have ra : RvX 21 (hrA A (zn x)) M1 := by rw [hM1]; exact rx_hr ra4 _
      have f1 : Fq (fun o j => o = 21 ∧ j = 4) M4 M1 := by rw [hM1]; exact Fq.si (c := fun o j => o = 21 ∧ j = 4) Fq.rf ⟨rfl, rfl⟩
      have D1 : DX M1 := D4.fr f1 (fun j => by omega) (fun j => by omega) (fun o j q _ => by omega)
      have U1 : UX C (psN nU) (psU nU U A) M1 := U4.fr D4 f1 (fun j => by omega) (by omega) (fun o j q => by omega)
      have K1 : KX C ch K M1 := K4.fr D4 f1 (fun j => by omega) (fun j => by omega) (by omega) (fun o j q => by omega)
      have L1 : LX l M1 := lx4.fr f1 (by omega) (fun j => by omega)
      have G1 : Ge (xm a) M M1 := (G4.mo (d := xm a) (fun o j q => by unfold xm; exact Or.inr (Or.inr (Or.inr (Or.inr q))))).tr (f1.mo (d := xm a) (fun o j q => by unfold xm; exact Or.inr (Or.inr (Or.inr (Or.inl (Or.inl ⟨q.1, Or.inl q.2⟩)))))).ge
      obtain ⟨y1, b1, v1, l1⟩ := hR.yx ca4 G1
      have f13' : Fq (fun o j => o = 72 ∧ j = 13) M1 (M1.si 72 13 0) := Fq.si (c := fun o j => o = 72 ∧ j = 13) Fq.rf ⟨rfl, rfl⟩
      obtain ⟨M5, e5, f5, v5⟩ := ms_remember (y1.fy f13).sh hR.2.2.2.1.1.1 (v1.fr f13' (fun j => by omega) (by omega)) (Or.inl rfl) (b1.fy f13)
      have b5 : RvY 73 A M5 := (b1.fy f13).fr f5 (fun j => by unfold rcl; omega)
      have b2 := ry_hr b5 (zn x)
      have f6 : Fq (fun o _ => o = 73) M5 (M5.si 73 12 (M5.i 73 12 + zn x)) := Fq.si (c := fun o _ => o = 73) Fq.rf rfl
      have g1 : Fq ym M1 (M5.si 73 12 (M5.i 73 12 + zn x)) := ((f13'.mo (d := ym) (fun o j q => by unfold ym; exact Or.inr (Or.inl ⟨q.1, Or.inr q.2⟩))).tr (f5.mo (d := ym) (fun o j q => by unfold ym; exact Or.inr (Or.inr (Or.inr (Or.inr q)))))).tr (f6.mo (d := ym) (fun o j q => by unfold ym; exact Or.inr (Or.inr (Or.inr (Or.inl q)))))
      refine ⟨A 12 + zn x, M1, _, ?_, ?_, ⟨C, hrA A (zn x), nT, bT, psN nU, psU nU U A, ch, K, l, hR.mut ca4 G1 ra U1 D1 K1 L1 g1 b2 (v5.fr f6 (fun j => by omega) (by omega)) (((l1.fr f13' (by omega) (fun j => by omega)).fr f5 (by unfold rcl; omega) (fun j => by unfold rcl; omega)).fr f6 (by omega) (fun j => by omega)) (ok_hr hR.ok hx.ok _) hR.l15⟩, ?_, ?_⟩
      · rw [u1, jn_u, if_neg x0, bde e4]
        show lt _ _ = _
        rw [lt_u, ← hM1, ra.2.1]
        rfl
      · rw [u2, jn_u, if_neg x0, bde e5]
        show ck 12 44 _ = _
        rw [ck12, ck12, lt_u, ck12, ix12, hy12 b2]
        rfl
      · rw [g1.1, f1.1]; omega
      · rw [g1.2.1, f1.2.1]; omega
  · refine ⟨-1, M, M.si 72 13 0, ?_, ?_, ⟨C, A, nT, bT, nU, U, ch, K, l, hR.q Fq.rf f13 hR.lx (ly13 hR.ly) hR.l15⟩, by show M.n ≤ M.n + 500; omega, by show M.w ≤ M.w + 5000; omega⟩
    · unfold x_pause
      rw [bde (xn_99 hn M), if_pos rfl]
    · unfold m_pause
      rw [lt_u, bde (mn_99 hn _), if_pos rfl]
end
