set_option maxRecDepth 100000
section
variable {C : SV} {A A' B : Nat → Int32} {M M1 M2 N : PM} {nT nU nU' ch a : Nat} {bT : Nat → Nat} {U U' : Nat → Nat → Int32} {K : Nat → Bool × (Nat → Int32) × Nat} {l l' : List Int64}
theorem Fq.sy {c : Nat → Nat → Prop} (f : Fq c M M1) : Fq c M1 M := ⟨f.1.symm, f.2.1.symm, f.2.2.1.symm, fun o j q => ⟨(f.2.2.2 o j q).1.symm, (f.2.2.2 o j q).2.1.symm, (f.2.2.2 o j q).2.2.symm⟩⟩
theorem rd52_ts (o j : Nat) (q : rdc 52 o j) : ts o j := by
  unfold rdc at q
  rcases (show (o = 52 ∧ 4 ≤ j) ∨ (53 ≤ o ∧ o ≤ 68) by omega) with w | w
  · exact Or.inr (Or.inr (Or.inr (Or.inr (Or.inl w))))
  · exact Or.inr (Or.inr (Or.inr (Or.inr (Or.inr (Or.inl w)))))
/-- the road as it was is laid aside -/
theorem RV.aside (h : RV C A nT bT nU U ch K l M) : ∃ M1, rd_becomes 52 21 M = some ((), M1) ∧ Fq (rdc 52) M M1 ∧ RvX 52 A M1 ∧ RvX 21 A M1 ∧ CX C M1 := by
  obtain ⟨M1, e, f, v⟩ := xs_becomes (RdS.of52 h.x.sh) (RdS.of21 h.x.sh) (by omega) h.a
  have fx : Fq xq M M1 := f.mo (fun o j q => Or.inl (rd52_ts o j q))
  exact ⟨M1, e, f, v, h.a.fx fx, h.x.fx fx⟩
/-- a road that changed is put by as it was before: x's side whole -/
theorem RV.put (h : RV C A nT bT nU U ch K l M) (f : Fq x0c M M2) (h52 : RvX 52 A M2) (h21 : RvX 21 A' M2) : ∃ M3 a, x_putsBy 52 M2 = some ((), M3) ∧ (M.n ≤ a ∨ ((105 ≤ a ∧ a + 4 < M.n) ∧ RdS M a)) ∧ Ge (xm a) M M3 ∧ RvX 21 A' M3 ∧ UX C (psN nU) (psU nU U A) M3 ∧ DX M3 ∧ KX C ch K M3 ∧ LX l M3 ∧ CX C M3 ∧ M3.n ≤ M.n + 5 ∧ M3.w ≤ M.w + 48 ∧ M3.i 20 44 = M2.i 20 44 := by
  obtain ⟨q1, q2, q3, q4, q5⟩ := h.x0 f
  have h0 := q1.sh.1
  obtain ⟨M3, a, e3, G3, c3, n3, w3, D3, U3, K3⟩ := xs_putsBy q1 q2 q3 q4 (Or.inr rfl) (RdS.of52 q1.sh) h52 h.ok
  have a105 : 105 ≤ a := by omega
  have ca : M.n ≤ a ∨ ((105 ≤ a ∧ a + 4 < M.n) ∧ RdS M a) := by
    rcases c3 with c3 | ⟨c3, c4⟩
    · left; rw [← f.1]; exact c3
    · right
      rw [f.1] at c3
      exact ⟨c3, c4.fr f.sy (fun j hj => by unfold x0c ts rdc; omega)⟩
  have ru3 : RuX C M3 := by
    refine q1.ru.gr h0 G3 (by unfold pcl rdc; omega) (fun o j ho hl k3 k6 w => ?_)
    have w2 : rdc a o j := by unfold pcl at w; omega
    rcases c3 with c3 | ⟨-, c3⟩
    · unfold rdc at w2; omega
    · obtain ⟨r0, -, r1, r2, r3, r4⟩ := c3
      have : (M2.k o).1 = 1 ∨ (M2.k o).1 = 20 := by
        rcases (show o = a ∨ o = a + 1 ∨ o = a + 2 ∨ o = a + 3 ∨ o = a + 4 by unfold rdc at w2; omega) with e | e | e | e | e
        · rw [e, r0]; exact Or.inl rfl
        · rw [e, r1]; exact Or.inr rfl
        · rw [e, r2]; exact Or.inr rfl
        · rw [e, r3]; exact Or.inr rfl
        · rw [e, r4]; exact Or.inr rfl
      omega
  have G : Ge (xm a) M M3 := (f.mo (d := xm a) (fun o j q => q.elim (fun w => Or.inl w) (fun w => Or.inr (Or.inr (Or.inr (Or.inl w)))))).ge.tr (G3.mo (d := xm a) (fun o j q => Or.inr (Or.inr (Or.inr (Or.inr q)))))
  have shp : ∀ q ∈ shR, ¬ pcl a q.1 q.2.1 := fun q hq w => sh_xm a105 q hq (Or.inr (Or.inr (Or.inr (Or.inr w))))
  exact ⟨M3, a, e3, ca, G, h21.ge (by omega) G3 (fun o j q => by unfold rdc at q; unfold pcl rdc; omega), U3, D3, K3, q5.ge h0 G3 (by unfold pcl rdc; omega) (fun j => by unfold pcl rdc; omega), q1.ge G3 shp ru3 (fun o j q => by unfold pcl rdc; omega), by rw [f.1] at n3; exact n3, by rw [f.2.1] at w3; exact w3, G3.i 20 44 (by omega) (by unfold pcl rdc; omega)⟩
theorem ok_wlk (h : OKA C A) (hC : OKC C) {t s : Nat} (ht : t < C.nt) (hs : s < C.ns) : OKA C (wlkA A t (zn s)) := by
  have := hC.nt4
  refine ⟨fun u hu => ?_, ?_, fun u hu => ?_⟩
  · unfold wlkA
    by_cases e : u = t
    · rw [if_pos e]; exact ⟨s, hs, rfl⟩
    · rw [if_neg e, if_neg (by omega)]; exact h.1 u hu
  · unfold wlkA
    rw [if_neg (by omega), if_neg (by omega)]; exact h.2.1
  · unfold wlkA
    rw [if_neg (by omega), if_neg (by omega)]; exact h.2.2 u hu
theorem call_walk (p q : Int32) : Call (x_walk p q) (m_walk p q) := by
  rintro kb M ⟨C, A, nT, bT, nU, U, ch, K, l, hR⟩
  have hx := hR.x
  have b1 := hx.ok.nt4
  have b2 := hx.ok.ns6
  obtain ⟨M1, e1, f1, v52, v21, x1⟩ := hR.aside
  have fx1 : Fq xq M M1 := f1.mo (fun o j q => Or.inl (rd52_ts o j q))
  have y1 := hR.y.fx fx1
  have bY1 : RvY 73 A M1 := hR.b.fr fx1 (fun j => by unfold xq ts; omega)
  have lx1 : LX l M1 := hR.lx.fr f1 (by unfold rdc; omega) (fun j => by unfold rdc; omega)
  have ly1 : LY l M1 := hR.ly.fr f1 (by unfold rdc; omega) (fun j => by unfold rdc; omega)
  have bad : ∀ v : Int32, v < 0 → x_walks 21 p q M1 = some (v, M1) → m_refusesWalk 73 p q (M1.si 72 13 0) = some (v, M1.si 72 13 0) → ∃ v M1 M2, x_walk p q M = some (v, M1) ∧ m_walk p q M1 = some (v, M2) ∧ RR kb M2 ∧ M2.n ≤ M.n + 500 ∧ M2.w ≤ M.w + 5000 := by
    intro v hv h1 h2
    refine ⟨v, M1, M1.si 72 13 0, ?_, ?_, ⟨C, A, nT, bT, nU, U, ch, K, l, hR.q fx1 f13 lx1 (ly13 ly1) hR.l15⟩, ?_, ?_⟩
    · unfold x_walk x_counts
      rw [bde e1, bde h1, if_pos hv, bd_s]
    · unfold m_walk
      rw [lt_u, bde h2, if_neg (Int32.not_le.mpr hv)]
    · show M1.n ≤ _; rw [f1.1]; omega
    · show M1.w ≤ _; rw [f1.2.1]; omega
  rcases dm_or (show C.nt < 2147483648 by omega) p with ⟨t, ht, rfl⟩ | hn
  · rcases dl_or (n := 1) (by omega) q with ⟨y, hy, rfl⟩ | hn2
    · obtain ⟨s, hs, hAs⟩ := hR.ok.1 t ht
      obtain ⟨wn, wy⟩ := xs_walks x1 (RdS.of21 x1.sh) v21 ht hy hAs hs
      have mr : ∀ N, CY 83 C N → RvY 73 A N → m_refusesWalk 73 (zn t) (zn y) N = _ := fun N hN bN => ms_refusesWalk hN (Or.inl rfl) bN ht hy hAs
      by_cases g : 0 ≤ zn s + (if y = 1 then 1 else -1) ∧ zn s + (if y = 1 then 1 else -1) ≤ zn C.ns - 1
      · obtain ⟨M2, e2, f2, w2⟩ := wy g
        obtain ⟨s', hs', es⟩ : ∃ s', s' < C.ns ∧ zn s + (if y = 1 then 1 else -1) = zn s' := by
          rcases dm_or (show C.ns < 2147483648 by omega) (zn s + (if y = 1 then 1 else -1)) with w | w
          · exact w
          · exact absurd g w
        rw [es] at e2 w2
        have fx0 : Fq x0c M M2 := (f1.mo (d := x0c) (fun o j q => Or.inl (rd52_ts o j q))).tr (f2.mo (d := x0c) (fun o j q => Or.inr q))
        obtain ⟨M3, a, e3, ca, G, A3, U3, D3, K3, L3, -, n3, w3, -⟩ := hR.put fx0 (v52.fr f2 (fun o j q => by unfold rdc at q; unfold rdc; omega)) w2
        obtain ⟨y3, b3, u3, l3⟩ := hR.yx ca G
        have f13' : Fq (fun o j => o = 72 ∧ j = 13) M3 (M3.si 72 13 0) := Fq.si (c := fun o j => o = 72 ∧ j = 13) Fq.rf ⟨rfl, rfl⟩
        have y4 := y3.fy (f13 (M := M3))
        have b4 := b3.fy (f13 (M := M3))
        have e4 := mr _ y4 b4
        rw [if_pos g] at e4
        obtain ⟨M5, e5, f5, v5⟩ := ms_remember y4.sh hR.2.2.2.1.1.1 (u3.fr f13' (fun j => by omega) (by omega)) (Or.inl rfl) b4
        obtain ⟨M6, e6, f6, v6⟩ := ms_goWalk (y4.rc f5) (Or.inl rfl) (b4.fr f5 (fun j => by unfold rcl; omega)) ht hy hAs
        rw [es] at e6 v6
        have g1 : Fq ym M3 M6 := ((f13'.mo (d := ym) (fun o j q => Or.inr (Or.inl ⟨q.1, Or.inr q.2⟩))).tr (f5.mo (d := ym) (fun o j q => Or.inr (Or.inr (Or.inr (Or.inr q)))))).tr (f6.mo (d := ym) (fun o j q => Or.inr (Or.inr (Or.inr (Or.inl q)))))
        refine ⟨zn s', M3, M6, ?_, ?_, ⟨C, wlkA A t (zn s'), nT, bT, psN nU, psU nU U A, ch, K, l, hR.mut ca G A3 U3 D3 K3 L3 g1 v6 (v5.fr f6 (fun j => by omega) (by omega)) (((l3.fr f13' (by omega) (fun j => by omega)).fr f5 (by unfold rcl; omega) (fun j => by unfold rcl; omega)).fr f6 (by omega) (fun j => by omega)) (ok_wlk hR.ok hx.ok ht hs') hR.l15⟩, ?_, ?_⟩
        · unfold x_walk x_counts
          rw [bde e1, bde e2, if_neg (Int32.not_lt.mpr (zn_nonneg (by omega))), bde e3, bd_s]
        · unfold m_walk
          rw [lt_u, bde e4, if_pos (by decide), bde e5, bde e6]
        · rw [g1.1]; omega
        · rw [g1.2.1]; omega
      · refine bad (-2) (by decide) (wn g) ?_
        rw [mr _ (y1.fy f13) (bY1.fy f13), if_neg g]
    · exact bad (-1) (by decide) (xs_walksN x1 _ _ (Or.inr hn2)) (ms_refusesWalkN (y1.fy f13) _ _ (Or.inr hn2))
  · exact bad (-1) (by decide) (xs_walksN x1 _ _ (Or.inl hn)) (ms_refusesWalkN (y1.fy f13) _ _ (Or.inl hn))
end
