set_option maxRecDepth 100000
section
variable {C : SV} {A A' B : Nat → Int32} {M M1 M2 N : PM} {nT nU nU' ch a : Nat} {bT : Nat → Nat} {U U' : Nat → Nat → Int32} {K : Nat → Bool × (Nat → Int32) × Nat} {l l' : List Int64}
theorem ok_say (h : OKA C A) (hC : OKC C) {t w s : Nat} (ht : t < C.nt) (hw : w < C.nw) (g : tol C w (A t) (A 12) ≤ A (4 + t)) : OKA C (sayA C A t w s) := by
  have := hC.nt4
  obtain ⟨d, hd, ed⟩ := h.2.1
  obtain ⟨x, hx, ex⟩ := dob_lt hC (A 13) (zn t) (A t) w
  refine ⟨fun u hu => ?_, ⟨d ||| x, Nat.or_lt_two_pow hd hx, ?_⟩, fun u hu => ?_⟩
  · unfold sayA
    rw [if_neg (by omega), if_neg (by omega), if_neg (by omega), if_neg (by omega)]; exact h.1 u hu
  · unfold sayA
    rw [if_neg (by omega), if_neg (by omega), if_pos rfl, ex, ed, zn_or]
  · obtain ⟨n, hn, en⟩ := tol_b hC hw (A t) (A 12)
    obtain ⟨m, hm, em⟩ := h.2.2 t ht
    rw [en, em, zn_le (by omega) (by omega)] at g
    unfold sayA
    by_cases e : u = t
    · rw [if_pos (by omega), en, em, zn_sub g]; exact ⟨m - n, by omega, rfl⟩
    · rw [if_neg (by omega), if_neg (by omega), if_neg (by omega), if_neg (by omega)]; exact h.2.2 u hu
theorem sx_x0 (o j : Nat) (q : sxc 21 o j) : x0c o j := by
  rcases q with q | q | q
  · exact Or.inl (ca_ts o j q)
  · exact Or.inr q
  · exact Or.inl (Or.inl ⟨q.1, by omega⟩)
theorem sy_ym (o j : Nat) (q : syc 73 o j) : ym o j := by
  rcases q with q | q | q
  · exact Or.inl (ca_ts o j q)
  · exact Or.inr (Or.inr (Or.inr (Or.inl q)))
  · exact Or.inl (by rw [q.1, q.2]; unfold ts; omega)
theorem call_say (p q : Int32) : Call (x_say p q) (m_say p q) := by
  rintro kb M ⟨C, A, nT, bT, nU, U, ch, K, l, hR⟩
  have hx := hR.x
  have b1 := hx.ok.nt4
  have b2 := hx.ok.nw10
  obtain ⟨M1, e1, f1, v52, v21, x1⟩ := hR.aside
  have fx1 : Fq xq M M1 := f1.mo (fun o j q => Or.inl (rd52_ts o j q))
  have lx1 : LX l M1 := hR.lx.fr f1 (by unfold rdc; omega) (fun j => by unfold rdc; omega)
  have bad : ∀ (v : Int32) (M1' M2 : PM), v < 0 → x_says 21 p q M1 = some (v, M1') → Fq ca M1 M1' → m_refusesSay 73 p q (M1'.si 72 13 0) = some (v, M2) → Fq ca (M1'.si 72 13 0) M2 → ∃ v M1 M2, x_say p q M = some (v, M1) ∧ m_say p q M1 = some (v, M2) ∧ RR kb M2 ∧ M2.n ≤ M.n + 500 ∧ M2.w ≤ M.w + 5000 := by
    intro v M1' M2 hv h1 f1' h2 f2'
    have fx2 : Fq xq M M1' := fx1.tr f1'.x
    have fy2 : Fq yq M1' M2 := f13.tr f2'.y
    refine ⟨v, M1', M2, ?_, ?_, ⟨C, A, nT, bT, nU, U, ch, K, l, hR.q fx2 fy2 (lx1.fa f1') ((ly13 ((hR.ly.fr f1 (by unfold rdc; omega) (fun j => by unfold rdc; omega)).fr f1' (by unfold ca; omega) (fun j => by unfold ca; omega))).fr f2' (by unfold ca; omega) (fun j => by unfold ca; omega)) hR.l15⟩, ?_, ?_⟩
    · unfold x_say
      rw [bde e1, bde h1, if_neg (Int32.not_le.mpr hv)]
    · unfold m_say
      rw [lt_u, bde h2, if_neg (Int32.not_le.mpr hv)]
    · rw [fy2.1, fx2.1]; omega
    · rw [fy2.2.1, fx2.2.1]; omega
  have y1 := hR.y.fx fx1
  have bY1 : RvY 73 A M1 := hR.b.fr fx1 (fun j => by unfold xq ts; omega)
  rcases dm_or (show C.nt < 2147483648 by omega) p with ⟨t, ht, rfl⟩ | hn
  · rcases dm_or (show C.nw < 2147483648 by omega) q with ⟨w, hw, rfl⟩ | hn2
    · obtain ⟨s, hs, hAs⟩ := hR.ok.1 t ht
      obtain ⟨wn, wy⟩ := xs_says x1 (Or.inl rfl) (RdS.of21 x1.sh) v21 ht hw hAs hs
      by_cases g : tol C w (A t) (A 12) ≤ A (4 + t)
      · obtain ⟨M2, e2, f2, w2, i2⟩ := wy g
        obtain ⟨dd, hdd, ed⟩ := tol_b hx.ok hw (A t) (A 12)
        have t0 : 0 ≤ tol C w (A t) (A 12) := by rw [ed]; exact zn_nonneg (by omega)
        have fx0 : Fq x0c M M2 := (f1.mo (d := x0c) (fun o j q => Or.inl (rd52_ts o j q))).tr (f2.mo (d := x0c) sx_x0)
        obtain ⟨M3, a, e3, ca3, G3, A3, U3, D3, K3, -, -, n3, w3, i3⟩ := hR.put fx0 (v52.fr f2 (fun o j q => by unfold rdc at q; unfold sxc ca rdc; omega)) w2
        obtain ⟨M5, e5, f5, L5⟩ := xs_tell0 M3 (dob C (A 13) (zn t) (A t) w).toInt64
        have A5 : RvX 21 _ M5 := A3.fr f5 (fun o j q => by unfold rdc at q; unfold rwx; omega)
        have D5 : DX M5 := D3.fr f5 (fun j => by unfold rwx; omega) (fun j => by unfold rwx; omega) (fun o j q _ => by unfold rwx; omega)
        have U5 := U3.fr D3 f5 (fun j => by unfold rwx; omega) (by unfold rwx; omega) (fun o j q => by unfold rwx; omega)
        have K5 := K3.fr D3 f5 (fun j => by unfold rwx; omega) (fun j => by unfold rwx; omega) (by unfold rwx; omega) (fun o j q => by unfold rwx; omega)
        have G : Ge (xm a) M M5 := G3.tr (f5.mo (d := xm a) (fun o j q => q.elim (fun w => Or.inr (Or.inl w)) (fun w => Or.inr (Or.inr (Or.inl w))))).ge
        obtain ⟨y5, b5, u5, l5⟩ := hR.yx ca3 G
        have f13' : Fq (fun o j => o = 72 ∧ j = 13) M5 (M5.si 72 13 0) := Fq.si (c := fun o j => o = 72 ∧ j = 13) Fq.rf ⟨rfl, rfl⟩
        obtain ⟨M6, e6, f6⟩ := ms_refusesSay (y5.fy f13) (Or.inl rfl) (b5.fy f13) ht hw
        rw [if_pos g] at e6
        have y6 := (y5.fy f13).fy f6.y
        have b6 := (b5.fy f13).fy f6.y
        have u6 := (u5.fr f13' (fun j => by omega) (by omega)).fr f6 (fun j => by unfold ca; omega) (by unfold ca; omega)
        obtain ⟨M7, e7, f7, v7⟩ := ms_remember y6.sh hR.2.2.2.1.1.1 u6 (Or.inl rfl) b6
        obtain ⟨M8, e8, f8, v8, i8⟩ := ms_goSay (y6.rc f7) (Or.inl rfl) (b6.fr f7 (fun j => by unfold rcl; omega)) ht hw hAs hs
        obtain ⟨M9, e9, f9, L9⟩ := ms_tell0 M8 (dob C (A 13) (zn t) (A t) w).toInt64
        have g1 : Fq ym M5 M9 := ((((f13'.mo (d := ym) (fun o j q => Or.inr (Or.inl ⟨q.1, Or.inr q.2⟩))).tr (f6.mo (d := ym) (fun o j q => Or.inl (ca_ts o j q)))).tr (f7.mo (d := ym) (fun o j q => Or.inr (Or.inr (Or.inr (Or.inr q)))))).tr (f8.mo (d := ym) sy_ym)).tr (f9.mo (d := ym) (fun o j q => q.elim (fun w => Or.inr (Or.inl ⟨w.1, Or.inl w.2⟩)) (fun w => Or.inr (Or.inr (Or.inl w)))))
        refine ⟨tol C w (A t) (A 12), M5, M9, ?_, ?_, ⟨C, sayA C A t w s, nT, bT, psN nU, psU nU U A, ch, K, [(dob C (A 13) (zn t) (A t) w).toInt64], hR.mut ca3 G A5 U5 D5 K5 L5 g1 (v8.fr f9 (fun j => by unfold rwy; omega)) ((v7.fr f8 (fun j => by unfold syc ca; omega) (by unfold syc ca; omega)).fr f9 (fun j => by unfold rwy; omega) (by unfold rwy; omega)) L9 (ok_say hR.ok hx.ok ht hw g) (by show 1 ≤ 15; omega)⟩, ?_, ?_⟩
        · unfold x_say
          rw [bde e1, bde e2, if_pos t0, bde e3, lt_u, show (M3.si 20 67 0).i 20 44 = dob C (A 13) (zn t) (A t) w from by rw [si_i, if_neg (by omega), i3, i2], bde e5]
        · unfold m_say
          rw [lt_u, bde e6, if_pos (by decide), bde e7, bde e8, lt_u, show (M8.si 72 12 0).i 72 31 = dob C (A 13) (zn t) (A t) w from by rw [si_i, if_neg (by omega), i8], bde e9]
        · rw [g1.1, f5.1]; omega
        · rw [g1.2.1, f5.2.1]; omega
      · obtain ⟨M2, e2, f2⟩ := wn g
        obtain ⟨M6, e6, f6⟩ := ms_refusesSay ((y1.fx f2.x).fy f13) (Or.inl rfl) ((bY1.fr f2 (fun j => by unfold ca; omega)).fy f13) ht hw
        rw [if_neg g] at e6
        exact bad (-2) M2 M6 (by decide) e2 f2 e6 f6
    · exact bad (-1) M1 _ (by decide) (xs_saysN x1 _ _ (Or.inr hn2)) Fq.rf (ms_refusesSayN (y1.fy f13) _ _ (Or.inr hn2)) Fq.rf
  · exact bad (-1) M1 _ (by decide) (xs_saysN x1 _ _ (Or.inl hn)) Fq.rf (ms_refusesSayN (y1.fy f13) _ _ (Or.inl hn)) Fq.rf
end
