set_option maxRecDepth 100000
/-! KEEP -/
section
variable {c : Nat → Nat → Prop} {C C' : SV} {A A' B : Nat → Int32} {M M1 M2 : PM} {nT nT' nU ch a i : Nat} {bT bT' : Nat → Nat} {U : Nat → Nat → Int32} {K : Nat → Bool × (Nat → Int32) × Nat} {l l' : List Int64}
theorem RdS.kind (h : RdS M a) {o : Nat} (h1 : a ≤ o) (h2 : o ≤ a + 4) : (M.k o).1 = 1 ∨ (M.k o).1 = 20 := by
  obtain ⟨q0, -, q1, q2, q3, q4⟩ := h
  rcases (show o = a ∨ o = a + 1 ∨ o = a + 2 ∨ o = a + 3 ∨ o = a + 4 by omega) with e | e | e | e | e
  · rw [e, q0]; exact Or.inl rfl
  · rw [e, q1]; exact Or.inr rfl
  · rw [e, q2]; exact Or.inr rfl
  · rw [e, q3]; exact Or.inr rfl
  · rw [e, q4]; exact Or.inr rfl
/-- the core stays where a road's block was written -/
theorem CX.blk (h : CX C M) (hS : RdS M a) (f : Fq c M M1) (hs : Sh M1) (hc : ∀ o j, ((31 ≤ o ∧ o ≤ 38) ∨ (o = 20 ∧ (j = 38 ∨ (10 ≤ j ∧ j ≤ 13)))) → ¬ c o j) (h105 : ∀ o j, 105 ≤ o → c o j → a ≤ o ∧ o ≤ a + 4) : CX C M1 := by
  have ru1 : RuX C M1 := h.ru.gr h.sh.1 f.ge (hc 20 38 (by omega)) (fun o j ho hl k3 k6 w => by
    obtain ⟨w1, w2⟩ := h105 o j ho w
    have := hS.kind w1 w2
    omega)
  obtain ⟨⟨a1, a2⟩, ⟨b1, b2, b3, b4⟩, c1, d1, e1⟩ := h
  refine ⟨⟨hs, a2⟩, ⟨?_, ?_, ?_, ?_⟩, fun w hw => ?_, fun e he => ?_, ru1⟩
  · rw [f.i _ _ (hc _ _ (by omega))]; exact b1
  · rw [f.i _ _ (hc _ _ (by omega))]; exact b2
  · rw [f.i _ _ (hc _ _ (by omega))]; exact b3
  · rw [f.i _ _ (hc _ _ (by omega))]; exact b4
  · rw [f.i 32 w (hc _ _ (by omega)), f.i 33 w (hc _ _ (by omega)), f.i 34 w (hc _ _ (by omega))]
    obtain ⟨g1, g2, g3, g4⟩ := c1 w hw
    refine ⟨g1, g2, g3, fun k hk => ?_⟩
    rw [f.i 31 _ (hc _ _ (by omega))]
    exact g4 k hk
  · rw [f.i 35 e (hc _ _ (by omega)), f.i 36 e (hc _ _ (by omega)), f.i 37 e (hc _ _ (by omega)), f.i 38 e (hc _ _ (by omega))]
    exact d1 e he
/-- one side's part of putting by -/
theorem XS.put (h : XS C A nT bT nU U ch K l M) {s : Nat} (hs : s = 21 ∨ s = 52) (hv : RvX s B M) (hB : OKA C B) : ∃ M3, x_putsBy s M = some ((), M3) ∧ Ge gxc M M3 ∧ XS C A nT bT (psN nU) (psU nU U B) ch K l M3 ∧ M3.n ≤ M.n + 5 ∧ M3.w ≤ M.w + 48 ∧ ∀ j, j ≠ 43 → M3.i 20 j = M.i 20 j := by
  have h0 := h.x.sh.1
  have hS : RdS M s := by
    rcases hs with e | e
    · rw [e]; exact RdS.of21 h.x.sh
    · rw [e]; exact RdS.of52 h.x.sh
  obtain ⟨M3, a, e3, G, ca, n3, w3, D3, U3, K3⟩ := xs_putsBy h.x h.d h.u h.kk hs hS hv hB
  have a105 : 105 ≤ a := by omega
  have ru3 : RuX C M3 := h.x.ru.gr h0 G (by unfold pcl rdc; omega) (fun o j ho hl k3 k6 w => by
    have w2 : rdc a o j := by unfold pcl at w; omega
    rcases ca with ca | ⟨-, ca⟩
    · unfold rdc at w2; omega
    · have := ca.kind (o := o) (by unfold rdc at w2; omega) (by unfold rdc at w2; omega)
      omega)
  have shp : ∀ q ∈ shR, ¬ pcl a q.1 q.2.1 := fun q hq w => sh_xm a105 q hq (Or.inr (Or.inr (Or.inr (Or.inr w))))
  refine ⟨M3, e3, G.mo (d := gxc) (fun o j q => ?_), ⟨⟨h.x.ge G shp ru3 (fun o j q => by unfold pcl rdc; omega), h.a.ge (by omega) G (fun o j q => by unfold rdc at q; unfold pcl rdc; omega), h.ok⟩, h.t.ge h0 G (by unfold pcl rdc; omega) (fun j => by unfold pcl rdc; omega), U3, K3, h.lx.ge h0 G (by unfold pcl rdc; omega) (fun j => by unfold pcl rdc; omega), D3⟩, n3, w3, fun j hj => G.i 20 j (by omega) (by unfold pcl rdc; omega)⟩
  unfold pcl rdc at q
  exact Or.inl (by omega)
def kpK (K : Nat → Bool × (Nat → Int32) × Nat) (i : Nat) (A : Nat → Int32) (ch : Nat) : Nat → Bool × (Nat → Int32) × Nat := fun k => if k = i then (true, A, ch) else K k
abbrev kcl (a o j : Nat) : Prop := o = 70 ∨ rdc a o j
theorem shR_kcl (ha : 105 ≤ a) : ∀ q ∈ shR, ¬ kcl a q.1 q.2.1 := by
  intro q hq w
  have h1 := shR_lt q hq
  have h2 : ∀ q ∈ shR, ¬ q.1 = 70 := by decide +kernel
  rcases w with w | w
  · exact h2 q hq w
  · unfold rdc at w; omega
theorem xs_keepFin (h : CX C M) (ha : RvX 21 A M) (hA : OKA C A) (hd : DX M) (hU : UX C nU U M) (hc : ch ≤ 1000) (h14 : M.i 20 14 = zn ch) (hK : ∀ k, k < 2 → k ≠ i → ((K k).1 = false → M.r 69 k = none) ∧ ((K k).1 = true → (K k).2.2 ≤ ch ∧ ((K k).2.2 = ch → OKA C (K k).2.1) ∧ M.i 70 k = zn (K k).2.2 ∧ ∃ a, M.r 69 k = some a ∧ RvX a (K k).2.1 M)) (hi : i < 2) (h69 : M.r 69 i = some a) :
    ∃ M', (ck (zn i) 2 <| lt (M.r 69 (ix (zn i))) fun r2 => rf r2 fun a1 => ckk M a1 1 <| bd (rd_becomes a1 21 M) fun _ M3 => ck (zn i) 2 <| lt (M3.si 70 (ix (zn i)) (M3.i 20 14)) fun M4 => some ((1 : Int32), M4)) = some (1, M') ∧ Fq (kcl a) M M' ∧ 105 ≤ a ∧ CX C M' ∧ DX M' ∧ UX C nU U M' ∧ KX C ch (kpK K i A ch) M' := by
  have hsl : slt M (12 + i) = some a := by unfold slt; rw [if_neg (by omega), Nat.add_sub_cancel_left]; exact h69
  obtain ⟨⟨g1, g2⟩, g3⟩ := hd (12 + i) (by omega) a hsl
  obtain ⟨M3, e3, f3, v3⟩ := xs_becomes (a := a) (b := 21) g2 (RdS.of21 h.sh) (by omega) ha
  have h14' : M3.i 20 14 = zn ch := (f3.i _ _ (by unfold rdc; omega)).trans h14
  obtain ⟨M', hM'⟩ : ∃ M', M' = M3.si 70 i (zn ch) := ⟨_, rfl⟩
  have f4 : Fq (fun o _ => o = 70) M3 M' := by rw [hM']; exact Fq.si (c := fun o _ => o = 70) Fq.rf rfl
  have f : Fq (kcl a) M M' := (f3.mo (d := kcl a) (fun o j q => Or.inr q)).tr (f4.mo (d := kcl a) (fun o j q => Or.inl q))
  have oth : ∀ k, k < 14 → k ≠ 12 + i → ∀ a1 V, slt M k = some a1 → RvX a1 V M → RvX a1 V M' := by
    intro k hk hkm a1 V ha1 hV1
    obtain ⟨⟨q1, q2⟩, q3⟩ := hd k hk a1 ha1
    have hne : a ≠ a1 := by
      intro e
      exact g3 k hk hkm (by rw [ha1, e])
    have hdis := rds_dis g2 q2 hne
    exact hV1.fr f (fun o j q => by unfold rdc at q; unfold kcl rdc; omega)
  refine ⟨M', ?_, f, g1.1, h.blk g2 f (h.sh.fr f (shR_kcl g1.1)) (fun o j q => by unfold kcl rdc; omega) (fun o j q w => by unfold kcl rdc at w; omega), ?_, ⟨hU.1, by rw [f.i _ _ (by unfold kcl rdc; omega)]; exact hU.2.1, fun k hk => ?_⟩, hc, by rw [f.i _ _ (by unfold kcl rdc; omega)]; exact h14, fun k hk => ?_⟩
  · rw [ck_zn hi (by omega), lt_u, ix_zn (by omega), h69, rf_s, ckk_k g2.1, bde e3, ck_zn hi (by omega), lt_u, h14', ← hM']
  · refine hd.ge h.sh.1 f.ge (fun j => by unfold kcl rdc; omega) (fun j => by unfold kcl rdc; omega) (fun o j ho hj hk q => ?_)
    have q2 : o = a + 1 ∨ o = a + 2 ∨ o = a + 3 ∨ o = a + 4 := by
      rcases q with q | q
      · omega
      · unfold rdc at q; omega
    rcases q2 with e | e | e | e
    · rw [e, g2.2.2.1] at hk; cases hk
    · rw [e, g2.2.2.2.1] at hk; cases hk
    · rw [e, g2.2.2.2.2.1] at hk; cases hk
    · rw [e, g2.2.2.2.2.2] at hk; cases hk
  · have n12 := hU.1
    obtain ⟨q0, a1, q1, q2⟩ := hU.2.2 k hk
    exact ⟨q0, a1, by rw [f.r _ _ (by unfold kcl rdc; omega)]; exact q1, oth k (by omega) (by omega) a1 _ (by unfold slt; rw [if_pos (by omega)]; exact q1) q2⟩
  · unfold kpK
    by_cases e : k = i
    · rw [if_pos e, e]
      refine ⟨fun q => (Bool.noConfusion q), fun _ => ⟨Nat.le_refl _, fun _ => hA, by rw [hM', si_i, if_pos ⟨rfl, rfl⟩], a, by rw [f.r _ _ (by unfold kcl rdc; omega)]; exact h69, v3.fr f4 (fun o j q => by unfold rdc at q; omega)⟩⟩
    · rw [if_neg e]
      obtain ⟨w1, w2⟩ := hK k hk e
      refine ⟨fun q => by rw [f.r _ _ (by unfold kcl rdc; omega)]; exact w1 q, fun q => ?_⟩
      obtain ⟨u1, u2, u3, a1, u4, u5⟩ := w2 q
      refine ⟨u1, u2, ?_, a1, by rw [f.r _ _ (by unfold kcl rdc; omega)]; exact u4, oth (12 + k) (by omega) (by omega) a1 _ (by unfold slt; rw [if_neg (by omega), Nat.add_sub_cancel_left]; exact u4) u5⟩
      rw [hM', si_i, if_neg (by omega), f3.i _ _ (by unfold rdc; omega)]
      exact u3
theorem xs_keep (h : XS C A nT bT nU U ch K l M) (hi : i < 2) : ∃ M1, x_keep (zn i) M = some (1, M1) ∧ Ge gxc M M1 ∧ XS C A nT bT nU U ch (kpK K i A ch) l M1 ∧ M1.n ≤ M.n + 500 ∧ M1.w ≤ M.w + 5000 := by
  have h0 := h.x.sh.1
  have hun : x_keep (zn i) M = (ck (zn i) 2 <| lt (M.r 69 (ix (zn i))) fun r1 => jn (fun (M2 : PM) => ck (zn i) 2 <| lt (M2.r 69 (ix (zn i))) fun r2 => rf r2 fun a1 => ckk M2 a1 1 <| bd (rd_becomes a1 21 M2) fun _ M3 => ck (zn i) 2 <| lt (M3.si 70 (ix (zn i)) (M3.i 20 14)) fun M4 => some ((1 : Int32), M4)) fun j1 => nl r1 (lt (M.nw 1 0 6) fun M5 => bd (rd_init M.n M5) fun _ M6 => ck (zn i) 2 <| ckk M6 M.n 1 <| lt (M6.sr 69 (ix (zn i)) (some M.n)) fun M7 => j1 M7) fun a2 => j1 M) := by
    unfold x_keep
    rw [bde (xt_1 (show i ≤ 1 by omega) M), if_neg (by decide)]
  rw [hun, ck_zn hi (by omega), lt_u, jn_u, ix_zn (by omega)]
  rcases hsl : M.r 69 i with _ | a
  · obtain ⟨M6, e6, n6, w6, R6, G6⟩ := xs_rdinit h0
    obtain ⟨M7, h7⟩ : ∃ M7, M7 = M6.sr 69 i (some M.n) := ⟨_, rfl⟩
    have G7 : Ge (fun o _ => o = 69) M M7 := (G6.mo (fun _ _ q => q.elim)).tr (by rw [h7]; exact (Fq.sr (c := fun o _ => o = 69) Fq.rf rfl).ge)
    have n7 : M7.n = M.n + 5 := by rw [h7]; exact n6
    have r69 : ∀ j, M7.r 69 j = if j = i then some M.n else M.r 69 j := fun j => by
      rw [h7, sr_r]
      by_cases e : j = i
      · rw [if_pos ⟨rfl, e⟩, if_pos e]
      · rw [if_neg (by omega), if_neg e, G6.r 69 j (by omega) id]
    have r51 : ∀ j, M7.r 51 j = M.r 51 j := fun j => G7.r 51 j (by omega) (by omega)
    have R7 : RdS M7 M.n := by
      rw [h7]
      exact R6.fr (c := fun o _ => o = 69) (Fq.sr (c := fun o _ => o = 69) Fq.rf rfl) (fun j _ => by omega)
    have sl7 : ∀ s', s' < 14 → slt M7 s' = if s' = 12 + i then some M.n else slt M s' := by
      intro s' hs'
      unfold slt
      by_cases q : s' < 12
      · rw [if_pos q, r51, if_neg (by omega), if_pos q]
      · rw [if_neg q, r69, if_neg q]
        by_cases e : s' = 12 + i
        · rw [if_pos (by omega), if_pos e]
        · rw [if_neg (by omega), if_neg e]
    have D7 : DX M7 := by
      intro s1 hs1 a1 ha1
      rw [sl7 s1 hs1] at ha1
      by_cases q : s1 = 12 + i
      · rw [if_pos q] at ha1
        cases ha1
        refine ⟨⟨⟨h0, by omega⟩, R7⟩, fun s2 hs2 hne e => ?_⟩
        rw [sl7 s2 hs2, if_neg (by omega)] at e
        have := (h.d s2 hs2 _ e).1.1.2
        omega
      · rw [if_neg q] at ha1
        obtain ⟨⟨g1, g2⟩, g3⟩ := h.d s1 hs1 a1 ha1
        refine ⟨⟨⟨g1.1, by omega⟩, g2.ge g1.2 G7 (fun j _ => by omega)⟩, fun s2 hs2 hne e => ?_⟩
        rw [sl7 s2 hs2] at e
        by_cases q2 : s2 = 12 + i
        · rw [if_pos q2] at e
          cases e
          omega
        · rw [if_neg q2] at e
          exact g3 s2 hs2 hne e
    have sh69 : ∀ q ∈ shR, ¬ (fun o _ : Nat => o = 69) q.1 q.2.1 := by decide +kernel
    have X7 : CX C M7 := h.x.ge G7 sh69 (h.x.ru.ge h0 G7 (fun o j q => by omega)) (fun o j q => by omega)
    have a7 : RvX 21 A M7 := h.a.ge (by omega) G7 (fun o j q => by unfold rdc at q; omega)
    have U7 : UX C nU U M7 := h.u.ge h0 h.d G7 (fun j => by omega) (by omega) (fun o j q => by omega)
    have i14 : M7.i 20 14 = zn ch := (G7.i 20 14 (by omega) (by omega)).trans h.kk.2.1
    obtain ⟨M', e', f', -, x', D', U', K'⟩ := xs_keepFin (K := K) (i := i) X7 a7 h.ok D7 U7 h.kk.1 i14 (fun k hk hne => by
      obtain ⟨w1, w2⟩ := h.kk.2.2 k hk
      refine ⟨fun q => by rw [r69, if_neg hne]; exact w1 q, fun q => ?_⟩
      obtain ⟨u1, u2, u3, a1, u4, u5⟩ := w2 q
      have u6 := (h.d (12 + k) (by omega) a1 (by unfold slt; rw [if_neg (by omega), Nat.add_sub_cancel_left]; exact u4)).1.1
      exact ⟨u1, u2, by rw [G7.i 70 k (by omega) (by omega)]; exact u3, a1, by rw [r69, if_neg hne]; exact u4, u5.ge u6.2 G7 (fun o j q => by unfold rdc at q; omega)⟩) hi (by rw [r69, if_pos rfl])
    have GG : Ge gxc M M' := (G7.mo (d := gxc) (fun o j q => Or.inl (by omega))).tr (f'.mo (d := gxc) (fun o j q => by
      unfold kcl rdc at q
      exact Or.inl (by omega))).ge
    refine ⟨M', ?_, GG, ⟨⟨x', a7.fr f' (fun o j q => by unfold rdc at q; unfold kcl rdc; omega), h.ok⟩, (h.t.ge h0 G7 (by omega) (fun j => by omega)).fr f' (by unfold kcl rdc; omega) (fun j => by unfold kcl rdc; omega), U', K', (h.lx.ge h0 G7 (by omega) (fun j => by omega)).fr f' (by unfold kcl rdc; omega) (fun j => by unfold kcl rdc; omega), D'⟩, ?_, ?_⟩
    · rw [nl_n, lt_u, bde e6, ck_zn hi (by omega), ckk_k R6.1, lt_u, ← h7]
      simp only [ix_zn (show i < 2147483648 by omega)] at e'
      exact e'
    · rw [f'.1]; omega
    · rw [f'.2.1, h7, sr_w, w6]; omega
  · obtain ⟨M', e', f', a105, x', D', U', K'⟩ := xs_keepFin (K := K) (i := i) h.x h.a h.ok h.d h.u h.kk.1 h.kk.2.1 (fun k hk _ => h.kk.2.2 k hk) hi hsl
    refine ⟨M', ?_, (f'.mo (d := gxc) (fun o j q => by
      unfold kcl rdc at q
      exact Or.inl (by omega))).ge, ⟨⟨x', h.a.fr f' (fun o j q => by unfold rdc at q; unfold kcl rdc; omega), h.ok⟩, h.t.fr f' (by unfold kcl rdc; omega) (fun j => by unfold kcl rdc; omega), U', K', h.lx.fr f' (by unfold kcl rdc; omega) (fun j => by unfold kcl rdc; omega), D'⟩, f'.n5, f'.w5⟩
    rw [nl_s]
    simp only [ix_zn (show i < 2147483648 by omega)] at e'
    exact e'
theorem ys_keep (h : YS C A nT bT nU U ch K l M) (hi : i < 2) : ∃ M1, m_keep (zn i) M = some (1, M1) ∧ Fq gyc M M1 ∧ YS C A nT bT nU U ch (kpK K i A ch) l M1 := by
  obtain ⟨N, hN⟩ : ∃ N, N = ((M.si 72 13 0).si 102 i 1).si 103 i (zn ch) := ⟨_, rfl⟩
  have f1 : Fq (fun o j => (o = 72 ∧ j = 13) ∨ (101 ≤ o ∧ o ≤ 103)) M N := by
    rw [hN]
    exact Fq.si (c := fun o j => (o = 72 ∧ j = 13) ∨ (101 ≤ o ∧ o ≤ 103)) (Fq.si (c := fun o j => (o = 72 ∧ j = 13) ∨ (101 ≤ o ∧ o ≤ 103)) (Fq.si (c := fun o j => (o = 72 ∧ j = 13) ∨ (101 ≤ o ∧ o ≤ 103)) Fq.rf (Or.inl ⟨rfl, rfl⟩)) (Or.inr (by omega))) (Or.inr (by omega))
  have sN : Sh N := h.y.sh.fr f1 (by decide +kernel)
  obtain ⟨M1, e1, f2, v1⟩ := ms_lay (M := N) (a := 73) (b := 101) (na := 44) (nb := 88) (d := 44 * i) (kd73 sN) (kd101 sN) (by omega) (by omega) (by omega) (by omega)
  have f : Fq (fun o j => (o = 72 ∧ j = 13) ∨ (101 ≤ o ∧ o ≤ 103)) M M1 := f1.tr (f2.mo (d := fun o j => (o = 72 ∧ j = 13) ∨ (101 ≤ o ∧ o ≤ 103)) (fun o j q => Or.inr (by omega)))
  refine ⟨M1, ?_, f.mo (d := gyc) (fun o j q => Or.inl (by omega)), ⟨⟨h.y.fr f (by decide +kernel) (fun o j q => by omega), by rw [f.r _ _ (by omega)]; exact h.1.2⟩, h.b.fr f (fun j => by omega), h.t.fr f (by omega) (fun j => by omega), h.u.fr f (fun j => by omega) (by omega), ⟨by rw [f.i _ _ (by omega)]; exact h.kk.1, fun k hk => ?_⟩, h.ly.fr f (by omega) (fun j => by omega)⟩⟩
  · have e44 : (44 : Int32) * zn i = zn (44 * i) := zn_mull i 44
    have z52 : ((M.si 72 13 0).si 102 i 1).i 72 52 = zn ch := by rw [si_i, if_neg (by omega), si_i, if_neg (by omega)]; exact h.kk.1
    unfold m_keep
    rw [lt_u, bde (mt_1 (show i ≤ 1 by omega) _), if_neg (by decide), ck_zn hi (by omega), lt_u, ix_zn (by omega), ck_zn hi (by omega), z52, lt_u, ← hN, e44, bde e1]
  · unfold kpK
    by_cases e : k = i
    · rw [if_pos e, e]
      refine ⟨fun q => Bool.noConfusion q, fun _ => ⟨?_, ?_, fun j hj => ?_⟩⟩
      · rw [f2.i _ _ (by omega), hN, si_i, if_neg (by omega), si_i, if_pos ⟨rfl, rfl⟩]
      · rw [f2.i _ _ (by omega), hN, si_i, if_pos ⟨rfl, rfl⟩]
      · rw [v1 j hj, f1.i _ _ (by omega)]; exact h.b j hj
    · rw [if_neg e]
      obtain ⟨w1, w2⟩ := h.kk.2 k hk
      have z1 : M1.i 102 k = M.i 102 k := by rw [f2.i _ _ (by omega), hN, si_i, if_neg (by omega), si_i, if_neg (by omega), si_i, if_neg (by omega)]
      have z2 : M1.i 103 k = M.i 103 k := by rw [f2.i _ _ (by omega), hN, si_i, if_neg (by omega), si_i, if_neg (by omega), si_i, if_neg (by omega)]
      rw [z1, z2]
      refine ⟨w1, fun q => ?_⟩
      obtain ⟨u1, u2, u3⟩ := w2 q
      refine ⟨u1, u2, fun j hj => ?_⟩
      rw [f2.i _ _ (by omega), hN, si_i, if_neg (by omega), si_i, if_neg (by omega), si_i, if_neg (by omega)]
      exact u3 j hj
theorem call_keep (p : Int32) : Call (x_keep p) (m_keep p) := by
  refine Call.xy (fun C A nT bT nU U ch K l hC hA h15 ht => ?_)
  rcases dl_or (n := 1) (by omega) p with ⟨i, hi, rfl⟩ | hn
  · exact ⟨1, C, A, nT, bT, nU, U, kpK K i A ch, l, h15, fun M h => xs_keep h (by omega), fun M h => ys_keep h (by omega)⟩
  · refine ⟨0, C, A, nT, bT, nU, U, K, l, h15, fun M h => ⟨M, ?_, (Fq.rf (c := xqt)).gx, h, by omega, by omega⟩, fun M h => ⟨M.si 72 13 0, ?_, f13.yt.gy, h.q f13.yt (h.t.fr f13 (by unfold yq ts; omega) (fun j => by unfold yq ts; omega)) (ly13 h.ly)⟩⟩
    · unfold x_keep
      rw [bde (xn_1 hn M), if_pos rfl]
    · unfold m_keep
      rw [lt_u, bde (mn_1 hn _), if_pos rfl]
end
