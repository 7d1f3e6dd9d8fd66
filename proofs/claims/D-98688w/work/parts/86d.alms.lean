set_option maxRecDepth 100000
section
variable {C : SV} {A A' B : Nat → Int32} {M M1 M2 N : PM} {nT nU nU' ch a : Nat} {bT : Nat → Nat} {U U' : Nat → Nat → Int32} {K : Nat → Bool × (Nat → Int32) × Nat} {l l' : List Int64}
theorem call_alms (p q r : Int32) : Call (x_alms p q r) (m_alms p q r) := by
  rintro kb M ⟨C, A, nT, bT, nU, U, ch, K, l, hR⟩
  have hx := hR.x
  have b1 := hx.ok.nt4
  obtain ⟨M1, e1, f1, v52, v21, x1⟩ := hR.aside
  have fx1 : Fq xq M M1 := f1.mo (fun o j q => Or.inl (rd52_ts o j q))
  have lx1 : LX l M1 := hR.lx.fr f1 (by unfold rdc; omega) (fun j => by unfold rdc; omega)
  have ly1 : LY l M1 := hR.ly.fr f1 (by unfold rdc; omega) (fun j => by unfold rdc; omega)
  have y1 := hR.y.fx fx1
  have bY1 : RvY 73 A M1 := hR.b.fr fx1 (fun j => by unfold xq ts; omega)
  have yI : ∀ p, m_isOne p (M1.si 72 13 0) = _ := fun p => ms_isOne (y1.fy f13) p
  have bad : ∀ v : Int32, v < 0 → x_givesAlms p q r M1 = some (v, M1) → m_alms p q r M1 = some (v, M1.si 72 13 0) → ∃ v M1 M2, x_alms p q r M = some (v, M1) ∧ m_alms p q r M1 = some (v, M2) ∧ RR kb M2 ∧ M2.n ≤ M.n + 500 ∧ M2.w ≤ M.w + 5000 := by
    intro v hv h1 h2
    refine ⟨v, M1, M1.si 72 13 0, ?_, h2, ⟨C, A, nT, bT, nU, U, ch, K, l, hR.q fx1 f13 lx1 (ly13 ly1) hR.l15⟩, ?_, ?_⟩
    · unfold x_alms x_counts
      rw [bde e1, bde h1, if_pos hv, bd_s]
    · show M1.n ≤ _; rw [f1.1]; omega
    · show M1.w ≤ _; rw [f1.2.1]; omega
  by_cases hp : 0 ≤ p ∧ p ≤ zn C.nt - 1
  case neg =>
    refine bad (-1) (by decide) ?_ ?_
    · unfold x_givesAlms
      rw [xs_isTraveller x1, if_neg hp, bd_s, if_pos rfl]
    · unfold m_alms
      rw [lt_u, yI, if_neg hp, bd_s, if_pos rfl]
  by_cases hq : 0 ≤ q ∧ q ≤ zn C.nt - 1
  case neg =>
    refine bad (-1) (by decide) ?_ ?_
    · unfold x_givesAlms
      rw [xs_isTraveller x1, if_pos hp, bd_s, if_neg (by decide), xs_isTraveller x1, if_neg hq, bd_s, if_pos rfl]
    · unfold m_alms
      rw [lt_u, yI, if_pos hp, bd_s, if_neg (by decide), yI, if_neg hq, bd_s, if_pos rfl]
  by_cases hpq : p = q
  case pos =>
    refine bad (-1) (by decide) ?_ ?_
    · unfold x_givesAlms
      rw [xs_isTraveller x1, if_pos hp, bd_s, if_neg (by decide), xs_isTraveller x1, if_pos hq, bd_s, if_neg (by decide), if_pos hpq]
    · unfold m_alms
      rw [lt_u, yI, if_pos hp, bd_s, if_neg (by decide), yI, if_pos hq, bd_s, if_neg (by decide), if_pos hpq]
  by_cases hr : 1 ≤ r ∧ r ≤ 9999
  case neg =>
    refine bad (-1) (by decide) ?_ ?_
    · unfold x_givesAlms
      rw [xs_isTraveller x1, if_pos hp, bd_s, if_neg (by decide), xs_isTraveller x1, if_pos hq, bd_s, if_neg (by decide), if_neg hpq, x_in_1, if_neg hr, bd_s, if_pos rfl]
    · unfold m_alms
      rw [lt_u, yI, if_pos hp, bd_s, if_neg (by decide), yI, if_pos hq, bd_s, if_neg (by decide), if_neg hpq, m_in32, if_neg hr, bd_s, if_pos rfl]
  obtain ⟨t, ht, rfl⟩ : ∃ t, t < C.nt ∧ p = zn t := (dm_or (show C.nt < 2147483648 by omega) p).elim id (fun w => absurd hp w)
  obtain ⟨u, hu, rfl⟩ : ∃ t, t < C.nt ∧ q = zn t := (dm_or (show C.nt < 2147483648 by omega) q).elim id (fun w => absurd hq w)
  obtain ⟨k, hk, rfl⟩ : ∃ k, k ≤ 9999 ∧ r = zn k := (dl_or (n := 9999) (by omega) r).elim id (fun w => absurd ⟨Int32.le_trans (by decide) hr.1, hr.2⟩ w)
  have htu : t ≠ u := fun w => hpq (by rw [w])
  obtain ⟨m, hm, em⟩ := hR.ok.2.2 t ht
  obtain ⟨n, hn, en⟩ := hR.ok.2.2 u hu
  obtain ⟨x22t, x23t, -⟩ := v21.1 t (by omega)
  obtain ⟨x22u, x23u, -⟩ := v21.1 u (by omega)
  have hX : x_givesAlms (zn t) (zn u) (zn k) M1 = (if A t = A u then (if zn k ≤ zn m then some (zn (min 9999 (n + k)), (M1.si 23 t (zn (m - k))).si 23 u (zn (min 9999 (n + k)))) else some (-2, M1)) else some (-3, M1)) := by
    unfold x_givesAlms
    rw [xs_isTraveller x1, if_pos hp, bd_s, if_neg (by decide), xs_isTraveller x1, if_pos hq, bd_s, if_neg (by decide), if_neg hpq, x_in_1, if_pos hr, bd_s, if_neg (by decide), ck_zn (by omega) (by omega), ck_zn (by omega) (by omega), ix_zn (by omega), ix_zn (by omega), show M1.i 22 t = A t from x22t, show M1.i 22 u = A u from x22u]
    by_cases g : A t = A u
    · rw [if_pos g, if_pos g, ck_zn (by omega) (by omega), show M1.i 23 t = zn m from x23t.trans em]
      by_cases g2 : zn k ≤ zn m
      · have g3 : k ≤ m := by rw [zn_le (by omega) (by omega)] at g2; exact g2
        have ei : (M1.si 23 t (zn (m - k))).i 23 u = zn n := by rw [si_i, if_neg (by omega)]; exact x23u.trans en
        rw [if_pos g2, if_pos g2, ck_zn (by omega) (by omega), ck_zn (by omega) (by omega), zn_sub g3, lt_u, ck_zn (by omega) (by omega), ck_zn (by omega) (by omega), ei, zn_add, show (9999 : Int32) = zn 9999 from rfl, imin_zn (by omega) (by omega), lt_u, ck_zn (by omega) (by omega), si_i, if_pos ⟨rfl, rfl⟩]
      · rw [if_neg g2, if_neg g2]
    · rw [if_neg g, if_neg g]
  have hM : ∀ Mx : PM, CY 83 C (Mx.si 72 13 0) → RvY 73 A (Mx.si 72 13 0) → m_alms (zn t) (zn u) (zn k) Mx = (if A t = A u then (if zn k ≤ zn m then (bd (m_remember 73 (Mx.si 72 13 0)) fun _ M5 => ck (4 + zn t) 44 <| ck (4 + zn t) 44 <| lt (M5.si 73 (ix (4 + zn t)) ((M5.i 73 (ix (4 + zn t))) - zn k)) fun M6 => ck (4 + zn u) 44 <| ck (4 + zn u) 44 <| lt (M6.si 73 (ix (4 + zn u)) (imin 9999 ((M6.i 73 (ix (4 + zn u))) + zn k))) fun M7 => ck (4 + zn u) 44 <| some ((M7.i 73 (ix (4 + zn u))), M7)) else some (-2, Mx.si 72 13 0)) else some (-3, Mx.si 72 13 0)) := by
    intro Mx hY hB
    unfold m_alms
    rw [lt_u, ms_isOne hY, if_pos hp, bd_s, if_neg (by decide), ms_isOne hY, if_pos hq, bd_s, if_neg (by decide), if_neg hpq, m_in32, if_pos hr, bd_s, if_neg (by decide), ck_zn (by omega) (by omega), ck_zn (by omega) (by omega), ix_zn (by omega), ix_zn (by omega), hB t (by omega), hB u (by omega)]
    by_cases g : A t = A u
    · rw [if_pos g, if_pos g, zn_4l, ck_zn (by omega) (by omega), ix_zn (by omega), hB (4 + t) (by omega), em]
    · rw [if_neg g, if_neg g]
  by_cases g : A t = A u
  case neg =>
    rw [if_neg g] at hX
    have hm1 := hM M1 (y1.fy f13) (bY1.fy f13)
    rw [if_neg g] at hm1
    exact bad (-3) (by decide) hX hm1
  rw [if_pos g] at hX
  by_cases g2 : zn k ≤ zn m
  case neg =>
    rw [if_neg g2] at hX
    have hm1 := hM M1 (y1.fy f13) (bY1.fy f13)
    rw [if_pos g, if_neg g2] at hm1
    exact bad (-2) (by decide) hX hm1
  rw [if_pos g2] at hX
  have g3 : k ≤ m := by rw [zn_le (by omega) (by omega)] at g2; exact g2
  obtain ⟨M2, hM2⟩ : ∃ M2, M2 = (M1.si 23 t (zn (m - k))).si 23 u (zn (min 9999 (n + k))) := ⟨_, rfl⟩
  rw [← hM2] at hX
  have f2 : Fq (rdc 21) M1 M2 := by
    rw [hM2]; exact (Fq.si (c := rdc 21) Fq.rf (Or.inr ⟨by omega, by omega⟩)).si (Or.inr ⟨by omega, by omega⟩)
  have w2 : RvX 21 (almA A t u m n k) M2 := by
    obtain ⟨h1, h2, h3, h4⟩ := v21
    rw [hM2]
    refine ⟨fun v hv => ?_, ?_, ?_, fun v hv => ?_⟩
    · obtain ⟨a1, a2, a3⟩ := h1 v hv
      refine ⟨?_, ?_, ?_⟩
      · unfold almA
        rw [if_neg (by omega), if_neg (by omega), si_i, if_neg (by omega), si_i, if_neg (by omega)]; exact a1
      · unfold almA
        rw [si_i, si_i]
        by_cases c1 : v = u
        · rw [if_pos ⟨rfl, c1⟩, if_pos (by omega)]
        · rw [if_neg (show ¬ (21 + 2 = 23 ∧ v = u) by omega), if_neg (show ¬ (4 + v = 4 + u) by omega)]
          by_cases c2 : v = t
          · rw [if_pos ⟨rfl, c2⟩, if_pos (by omega)]
          · rw [if_neg (by omega), if_neg (by omega)]; exact a2
      · unfold almA
        rw [if_neg (by omega), if_neg (by omega), si_i, if_neg (by omega), si_i, if_neg (by omega)]; exact a3
    · unfold almA
      rw [if_neg (by omega), if_neg (by omega), si_i, if_neg (by omega), si_i, if_neg (by omega)]; exact h2
    · unfold almA
      rw [if_neg (by omega), if_neg (by omega), si_i, if_neg (by omega), si_i, if_neg (by omega)]; exact h3
    · unfold almA
      rw [if_neg (by omega), if_neg (by omega), si_i, if_neg (by omega), si_i, if_neg (by omega)]; exact h4 v hv
  have fx0 : Fq x0c M M2 := (f1.mo (d := x0c) (fun o j q => Or.inl (rd52_ts o j q))).tr (f2.mo (d := x0c) (fun o j q => Or.inr q))
  obtain ⟨M3, a, e3, ca, G, A3, U3, D3, K3, L3, -, n3, w3, -⟩ := hR.put fx0 (v52.fr f2 (fun o j q => by unfold rdc at q; unfold rdc; omega)) w2
  obtain ⟨y3, b3, u3, l3⟩ := hR.yx ca G
  have f13' : Fq (fun o j => o = 72 ∧ j = 13) M3 (M3.si 72 13 0) := Fq.si (c := fun o j => o = 72 ∧ j = 13) Fq.rf ⟨rfl, rfl⟩
  have y4 := y3.fy (f13 (M := M3))
  have b4 := b3.fy (f13 (M := M3))
  have e4 := hM M3 y4 b4
  rw [if_pos g, if_pos g2] at e4
  obtain ⟨M5, e5, f5, v5⟩ := ms_remember y4.sh hR.2.2.2.1.1.1 (u3.fr f13' (fun j => by omega) (by omega)) (Or.inl rfl) b4
  have b5 : RvY 73 A M5 := b4.fr f5 (fun j => by unfold rcl; omega)
  obtain ⟨M7, hM7⟩ : ∃ M7, M7 = (M5.si 73 (4 + t) (zn (m - k))).si 73 (4 + u) (zn (min 9999 (n + k))) := ⟨_, rfl⟩
  have f7 : Fq (fun o _ => o = 73) M5 M7 := by
    rw [hM7]; exact (Fq.si (c := fun o _ => o = 73) Fq.rf rfl).si rfl
  have v7 : RvY 73 (almA A t u m n k) M7 := by
    intro j hj
    rw [hM7, si_i, si_i]
    unfold almA
    by_cases c1 : j = 4 + u
    · rw [if_pos ⟨rfl, c1⟩, if_pos c1]
    · rw [if_neg (by omega), if_neg c1]
      by_cases c2 : j = 4 + t
      · rw [if_pos ⟨rfl, c2⟩, if_pos c2]
      · rw [if_neg (by omega), if_neg c2]; exact b5 j hj
  have g1 : Fq ym M3 M7 := ((f13'.mo (d := ym) (fun o j q => Or.inr (Or.inl ⟨q.1, Or.inr q.2⟩))).tr (f5.mo (d := ym) (fun o j q => Or.inr (Or.inr (Or.inr (Or.inr q)))))).tr (f7.mo (d := ym) (fun o j q => Or.inr (Or.inr (Or.inr (Or.inl q)))))
  refine ⟨zn (min 9999 (n + k)), M3, M7, ?_, ?_, ⟨C, almA A t u m n k, nT, bT, psN nU, psU nU U A, ch, K, l, hR.mut ca G A3 U3 D3 K3 L3 g1 v7 (v5.fr f7 (fun j => by omega) (by omega)) (((l3.fr f13' (by omega) (fun j => by omega)).fr f5 (by unfold rcl; omega) (fun j => by unfold rcl; omega)).fr f7 (by omega) (fun j => by omega)) ((ok_alm hR.ok hx.ok hm).elim id (fun w => absurd ⟨ht, hu⟩ w)) hR.l15⟩, ?_, ?_⟩
  · unfold x_alms x_counts
    rw [bde e1, bde hX, if_neg (Int32.not_lt.mpr (zn_nonneg (by omega))), bde e3, bd_s]
  · have ei : (M5.si 73 (4 + t) (zn (m - k))).i 73 (4 + u) = zn n := by rw [si_i, if_neg (by omega), b5 _ (by omega)]; exact en
    rw [e4, bde e5, zn_4l, zn_4l, ck_zn (by omega) (by omega), ck_zn (by omega) (by omega), ix_zn (by omega), ix_zn (by omega), b5 (4 + t) (by omega), em, zn_sub g3, lt_u, ck_zn (by omega) (by omega), ck_zn (by omega) (by omega), ei, zn_add, show (9999 : Int32) = zn 9999 from rfl, imin_zn (by omega) (by omega), lt_u, ← hM7, ck_zn (by omega) (by omega), hM7, si_i, if_pos ⟨rfl, rfl⟩]
  · rw [g1.1]; omega
  · rw [g1.2.1]; omega
end
