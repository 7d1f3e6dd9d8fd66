set_option maxRecDepth 100000
section
variable {C : SV} {A A' B : Nat → Int32} {M M1 M2 N : PM} {nT nU nU' ch a : Nat} {bT : Nat → Nat} {U U' : Nat → Nat → Int32} {K : Nat → Bool × (Nat → Int32) × Nat} {l l' : List Int64}
theorem call_again (p : Int32) : Call (x_again p) (m_again p) := by
  rintro kb M ⟨C, A, nT, bT, nU, U, ch, K, l, hR⟩
  have hx := hR.x
  have h0 := hx.sh.1
  have hD := hR.2.2.2.2.2.2
  have hK := hR.2.2.2.2.1.1
  have hL := hR.2.2.2.2.1.2
  have hc := hK.1
  have none0 : x_again p M = some (0, M) → m_again p M = some (0, M.si 72 13 0) → ∃ v M1 M2, x_again p M = some (v, M1) ∧ m_again p M1 = some (v, M2) ∧ RR kb M2 ∧ M2.n ≤ M.n + 500 ∧ M2.w ≤ M.w + 5000 := fun h1 h2 =>
    ⟨0, M, M.si 72 13 0, h1, h2, ⟨C, A, nT, bT, nU, U, ch, K, l, hR.q Fq.rf f13 hR.lx (ly13 hR.ly) hR.l15⟩, by show M.n ≤ M.n + 500; omega, by show M.w ≤ M.w + 5000; omega⟩
  rcases dl_or (n := 1) (by omega) p with ⟨i, hi, rfl⟩ | hn
  case inr =>
    have hn' : ¬ (0 ≤ p ∧ p ≤ 1) := hn
    refine none0 ?_ ?_
    · unfold x_again
      rw [x_in_01, if_neg hn', bd_s, if_pos rfl]
    · unfold m_again
      rw [lt_u, m_in32, if_neg hn', bd_s, if_pos rfl]
  obtain ⟨k1, k2⟩ := hK.2.2 i (by omega)
  obtain ⟨q1, q2⟩ := hL.2 i (by omega)
  have hX : x_again (zn i) M = (nl (M.r 69 i) (some (0, M)) fun a1 => if M.i 70 i = zn ch then (rf (M.r 69 i) fun a2 => bd (rd_becomes 21 a2 M) fun _ M2 => lt (M2.si 20 43 0) fun M3 => some (1, M3)) else some (0, M)) := by
    unfold x_again
    rw [bde (xt_1 hi M), if_neg (by decide), ck_zn (by omega) (by omega), ix_zn (by omega), lt_u, hK.2.1]
    cases e : M.r 69 i with
    | none => rw [nl_n, nl_n]
    | some b => rw [nl_s, nl_s, ck_zn (by omega) (by omega), ck_zn (by omega) (by omega), lt_u]
  have hM : ∀ Mx : PM, m_again (zn i) Mx = (if (Mx.si 72 13 0).i 102 i = 0 then some (0, Mx.si 72 13 0) else if (Mx.si 72 13 0).i 103 i = (Mx.si 72 13 0).i 72 52 then m_again_L40 (zn i) (fun (M5 : PM) => lt (M5.si 72 29 0) fun M6 => some (1, M6)) FU 0 (Mx.si 72 13 0) else some (0, Mx.si 72 13 0)) := by
    intro Mx
    unfold m_again
    rw [lt_u, m_in32, if_pos (show (0 : Int32) ≤ zn i ∧ zn i ≤ 1 from ⟨zn_nonneg (by omega), (zn_le (a := i) (b := 1) (by omega) (by omega)).mpr hi⟩), bd_s, if_neg (by decide), ck_zn (by omega) (by omega), ck_zn (by omega) (by omega), ix_zn (by omega)]
  by_cases hb : (K i).1 = true
  case neg =>
    have hb' : (K i).1 = false := by simpa using hb
    refine none0 ?_ ?_
    · rw [hX, nln (k1 hb')]
    · rw [hM, if_pos (by rw [si_i, if_neg (by omega)]; exact q1 hb')]
  obtain ⟨c1, c2, c3, a, ra, va⟩ := k2 hb
  obtain ⟨d1, d2, d3⟩ := q2 hb
  have one : ¬ (1 : Int32) = 0 := by decide
  by_cases g : (K i).2.2 = ch
  case neg =>
    have g' : ¬ zn (K i).2.2 = zn ch := fun w => g (zn_inj (by omega) (by omega) w)
    refine none0 ?_ ?_
    · rw [hX, nle ra, c3, if_neg g']
    · have z1 : (M.si 72 13 0).i 102 i = 1 := by rw [si_i, if_neg (by omega)]; exact d1
      have z2 : (M.si 72 13 0).i 103 i = zn (K i).2.2 := by rw [si_i, if_neg (by omega)]; exact d2
      have z3 : (M.si 72 13 0).i 72 52 = zn ch := by rw [si_i, if_neg (by omega)]; exact hL.1
      rw [hM, z1, if_neg one, z2, z3, if_neg g']
  have okB := c2 g
  obtain ⟨⟨a5, Sa⟩, -⟩ := hD (12 + i) (by omega) a (by unfold slt; rw [if_neg (by omega), Nat.add_sub_cancel_left]; exact ra)
  obtain ⟨M2, e2, f2, v2⟩ := xs_becomes (a := 21) (b := a) (RdS.of21 hx.sh) Sa (by omega) va
  obtain ⟨M3, hM3⟩ : ∃ M3, M3 = M2.si 20 43 0 := ⟨_, rfl⟩
  have f3 : Fq (fun o j => o = 20 ∧ j = 43) M2 M3 := by rw [hM3]; exact Fq.si (c := fun o j => o = 20 ∧ j = 43) Fq.rf ⟨rfl, rfl⟩
  have f : Fq udc M M3 := (f2.mo (d := udc) (fun o j q => Or.inr q)).tr (f3.mo (d := udc) (fun o j q => Or.inl q))
  have v3 : RvX 21 (K i).2.1 M3 := v2.fr f3 (fun o j q => by unfold rdc at q; omega)
  have D2 : DX M3 := hD.fr f (fun j => by unfold udc rdc; omega) (fun j => by unfold udc rdc; omega) (fun o j q _ => by unfold udc rdc; omega)
  have U2 : UX C 0 U M3 := ⟨by omega, by rw [hM3, si_i, if_pos ⟨rfl, rfl⟩]; rfl, fun k hk => absurd hk (by omega)⟩
  have K2 : KX C ch K M3 := hK.fr hD f (fun j => by unfold udc rdc; omega) (fun j => by unfold udc rdc; omega) (by unfold udc rdc; omega) (fun o j q => by unfold udc rdc; omega)
  have L2 : LX l M3 := hR.lx.fr f (by unfold udc rdc; omega) (fun j => by unfold udc rdc; omega)
  have G : Ge (xm M.n) M M3 := (f.mo (d := xm M.n) (fun o j q => q.elim (fun w => Or.inr (Or.inr (Or.inr (Or.inr (Or.inl w))))) (fun w => Or.inr (Or.inr (Or.inr (Or.inl w)))))).ge
  obtain ⟨y2, b2, u2, l2⟩ := hR.yx (Or.inl (Nat.le_refl _)) G
  have f4 : Fq (fun o j => o = 72 ∧ j = 13) M3 (M3.si 72 13 0) := Fq.si (c := fun o j => o = 72 ∧ j = 13) Fq.rf ⟨rfl, rfl⟩
  obtain ⟨N, hN⟩ : ∃ N, N = M3.si 72 13 0 := ⟨_, rfl⟩
  rw [← hN] at f4
  have n1 : N.i 102 i = 1 := by rw [f4.i _ _ (by omega), f.i _ _ (by unfold udc rdc; omega)]; exact d1
  have n2 : N.i 103 i = N.i 72 52 := by rw [f4.i _ _ (by omega), f.i _ _ (by unfold udc rdc; omega), f4.i _ _ (by omega), f.i _ _ (by unfold udc rdc; omega), d2, hL.1, g]
  obtain ⟨M5, e5, f5, v5⟩ := ms_unkeep (N := N) (m := i) (B := (K i).2.1) (by omega) (fun j hj => by rw [f4.i _ _ (by omega), f.i _ _ (by unfold udc rdc; omega)]; exact d3 j hj) (fun (M5 : PM) => lt (M5.si 72 29 0) fun M6 => some (1, M6))
  have f6 : Fq (fun o j => o = 72 ∧ j = 29) M5 (M5.si 72 29 0) := Fq.si (c := fun o j => o = 72 ∧ j = 29) Fq.rf ⟨rfl, rfl⟩
  have gg : Fq ym M3 (M5.si 72 29 0) := ((f4.mo (d := ym) (fun o j q => Or.inr (Or.inl ⟨q.1, Or.inr q.2⟩))).tr (f5.mo (d := ym) (fun o j q => Or.inr (Or.inr (Or.inr (Or.inl q)))))).tr (f6.mo (d := ym) (fun o j q => Or.inr (Or.inr (Or.inr (Or.inr (Or.inr q))))))
  have V5 : UY 0 U (M5.si 72 29 0) := ⟨by rw [si_i, if_pos ⟨rfl, rfl⟩]; rfl, fun k hk => absurd hk (by omega)⟩
  have L5 : LY l (M5.si 72 29 0) := ((l2.fr f4 (by omega) (fun j => by omega)).fr f5 (by omega) (fun j => by omega)).fr f6 (by omega) (fun j => by omega)
  refine ⟨1, M3, M5.si 72 29 0, ?_, ?_, ⟨C, (K i).2.1, nT, bT, 0, U, ch, K, l, hR.mut (Or.inl (Nat.le_refl _)) G v3 U2 D2 K2 L2 gg (v5.fr f6 (fun j => by omega)) V5 L5 okB hR.l15⟩, ?_, ?_⟩
  · rw [hX, nle ra, c3, g, if_pos rfl, rfe ra, bde e2, lt_u, ← hM3]
  · rw [hM, ← hN, n1, if_neg one, if_pos n2, e5, lt_u]
  · rw [gg.1, f.1]; omega
  · rw [gg.2.1, f.2.1]; omega
end
