set_option maxRecDepth 100000
section
variable {C : SV} {A A' B : Nat → Int32} {M M1 M2 N : PM} {nT nU nU' ch a : Nat} {bT : Nat → Nat} {U U' : Nat → Nat → Int32} {K : Nat → Bool × (Nat → Int32) × Nat} {l l' : List Int64}
/-- the reference lays the row back -/
theorem ms_unlay (h : Sh N) {m : Nat} (hm : m < 12) (i29 : N.i 72 29 = zn m) (hB : ∀ j, j < 44 → N.i 87 (44 * m + j) = B j) (Kc : PM → Option (Int32 × PM)) :
    ∃ N', m_undo_L26 Kc FU 0 N = Kc N' ∧ Fq (fun o _ => o = 73) N N' ∧ RvY 73 B N' := by
  have := wlp (fun n k (_ : Unit) M2 => m_undo_L26 Kc n (zn k) M2) 44 FU (FU_lt (by omega)) (fun _ s => s) () (fun k M2 => Fq (fun o _ => o = 73) N M2 ∧ ∀ j, j < k → M2.i 73 j = B j) (fun o => ∃ N', o = Kc N' ∧ Fq (fun o _ => o = 73) N N' ∧ RvY 73 B N') (fun n k M2 hk hI => ?_) (fun n M2 hI => ?_) N ⟨Fq.rf, fun j q => absurd q (by omega)⟩
  · exact this
  · obtain ⟨f, i1⟩ := hI
    have e1 : M2.i 87 (44 * m + k) = B k := (f.i 87 _ (by omega)).trans (hB k hk)
    have e2 : M2.i 72 29 = zn m := (f.i 72 29 (by omega)).trans i29
    have e44 : (44 : Int32) * zn m = zn (44 * m) := zn_mull m 44
    refine ⟨M2.si 73 k (B k), ⟨Fq.si (c := fun o _ => o = 73) f rfl, fun j hj => ?_⟩, ?_⟩
    · rw [si_i]
      by_cases e : j = k
      · rw [if_pos ⟨rfl, e⟩, e]
      · rw [if_neg (by omega)]; exact i1 j (by omega)
    · show m_undo_L26 Kc (n + 1) (zn k) M2 = m_undo_L26 Kc n (zn (k + 1)) _
      rw [m_undo_L26, if_neg (by rw [l_le_zn (by omega) (by omega)]; omega), e2, e44, zn_add, ck_zn (by omega) (by omega), ck_zn (by omega) (by omega), lt_u, lt_u, ix_zn (by omega), ix_zn (by omega), e1, zn_addl]
  · refine ⟨M2, ?_, hI.1, hI.2⟩
    show m_undo_L26 Kc (n + 1) (zn 44) M2 = _
    rw [m_undo_L26, if_pos (by decide)]
abbrev udc (o j : Nat) : Prop := (o = 20 ∧ j = 43) ∨ rdc 21 o j
theorem call_undo : Call x_undo m_undo := by
  rintro kb M ⟨C, A, nT, bT, nU, U, ch, K, l, hR⟩
  have hx := hR.x
  have h0 := hx.sh.1
  have hU := hR.2.2.2.1.1
  have hV := hR.2.2.2.1.2
  have hD := hR.2.2.2.2.2.2
  have n12 := hU.1
  rcases Nat.eq_zero_or_pos nU with z | z
  · subst z
    refine ⟨-1, M, M.si 72 13 0, ?_, ?_, ⟨C, A, nT, bT, 0, U, ch, K, l, hR.q Fq.rf f13 hR.lx (ly13 hR.ly) hR.l15⟩, by show M.n ≤ M.n + 500; omega, by show M.w ≤ M.w + 5000; omega⟩
    · unfold x_undo
      rw [if_pos (show M.i 20 43 = 0 from hU.2.1)]
    · unfold m_undo
      rw [lt_u, if_pos]
      rw [si_i, if_neg (by omega)]; exact hV.1
  · obtain ⟨m, rfl⟩ : ∃ m, nU = m + 1 := ⟨nU - 1, by omega⟩
    have nz : ¬ zn (m + 1) = (0 : Int32) := by
      intro w
      have w2 : zn (m + 1) = zn 0 := w
      have := zn_inj (by omega) (by omega) w2
      omega
    have es : zn (m + 1) - 1 = zn m := by rw [show (1 : Int32) = zn 1 from rfl, zn_sub (by omega), Nat.add_sub_cancel]
    obtain ⟨okB, a, ra, va⟩ := hU.2.2 m (by omega)
    obtain ⟨⟨a5, Sa⟩, -⟩ := hD m (by omega) a (by unfold slt; rw [if_pos (by omega)]; exact ra)
    obtain ⟨M1, hM1⟩ : ∃ M1, M1 = M.si 20 43 (zn m) := ⟨_, rfl⟩
    have f1 : Fq (fun o j => o = 20 ∧ j = 43) M M1 := by rw [hM1]; exact Fq.si (c := fun o j => o = 20 ∧ j = 43) Fq.rf ⟨rfl, rfl⟩
    have i43 : M1.i 20 43 = zn m := by rw [hM1, si_i, if_pos ⟨rfl, rfl⟩]
    have r1 : M1.r 51 m = some a := (f1.r 51 m (by omega)).trans ra
    have s1 : Sh M1 := hx.sh.fr f1 (by decide +kernel)
    obtain ⟨M2, e2, f2, v2⟩ := xs_becomes (a := 21) (b := a) (RdS.of21 s1) (Sa.fr f1 (fun j hj => by omega)) (by omega) (va.fr f1 (fun o j q => by unfold rdc at q; omega))
    have f : Fq udc M M2 := (f1.mo (d := udc) (fun o j q => Or.inl q)).tr (f2.mo (d := udc) (fun o j q => Or.inr q))
    have D2 : DX M2 := hD.fr f (fun j => by unfold udc rdc; omega) (fun j => by unfold udc rdc; omega) (fun o j q _ => by unfold udc rdc; omega)
    have U2 : UX C m U M2 := by
      refine ⟨by omega, by rw [f2.i _ _ (by unfold rdc; omega)]; exact i43, fun k hk => ?_⟩
      obtain ⟨g0, b, g1, g2⟩ := hU.2.2 k (by omega)
      obtain ⟨⟨b5, -⟩, -⟩ := hD k (by omega) b (by unfold slt; rw [if_pos (by omega)]; exact g1)
      exact ⟨g0, b, (f.r 51 k (by unfold udc rdc; omega)).trans g1, g2.fr f (fun o j q => by unfold rdc at q; unfold udc rdc; omega)⟩
    have K2 : KX C ch K M2 := hR.2.2.2.2.1.1.fr hD f (fun j => by unfold udc rdc; omega) (fun j => by unfold udc rdc; omega) (by unfold udc rdc; omega) (fun o j q => by unfold udc rdc; omega)
    have L2 : LX l M2 := hR.lx.fr f (by unfold udc rdc; omega) (fun j => by unfold udc rdc; omega)
    have G : Ge (xm M.n) M M2 := (f.mo (d := xm M.n) (fun o j q => q.elim (fun w => Or.inr (Or.inr (Or.inr (Or.inr (Or.inl w))))) (fun w => Or.inr (Or.inr (Or.inr (Or.inl w)))))).ge
    obtain ⟨y2, b2, u2, l2⟩ := hR.yx (Or.inl (Nat.le_refl _)) G
    obtain ⟨M4, hM4⟩ : ∃ M4, M4 = (M2.si 72 13 0).si 72 29 (zn m) := ⟨_, rfl⟩
    have f4 : Fq (fun o j => o = 72 ∧ (j = 13 ∨ j = 29)) M2 M4 := by
      rw [hM4]; exact (Fq.si (c := fun o j => o = 72 ∧ (j = 13 ∨ j = 29)) Fq.rf ⟨rfl, Or.inl rfl⟩).si ⟨rfl, Or.inr rfl⟩
    have i29 : M4.i 72 29 = zn m := by rw [hM4, si_i, if_pos ⟨rfl, rfl⟩]
    have s4 : Sh M4 := y2.sh.fr f4 (by decide +kernel)
    obtain ⟨M5, e5, f5, v5⟩ := ms_unlay (B := U m) s4 (m := m) (by omega) i29 (fun j hj => (f4.i 87 _ (by omega)).trans (u2.2 m (by omega) j hj)) (fun (M5 : PM) => some ((M5.i 72 29), M5))
    have i5 : M5.i 72 29 = zn m := (f5.i _ _ (by omega)).trans i29
    have g : Fq ym M2 M5 := (f4.mo (d := ym) (fun o j q => q.2.elim (fun w => Or.inr (Or.inl ⟨q.1, Or.inr w⟩)) (fun w => Or.inr (Or.inr (Or.inr (Or.inr (Or.inr ⟨q.1, w⟩))))))).tr (f5.mo (d := ym) (fun o j q => Or.inr (Or.inr (Or.inr (Or.inl q)))))
    have V5 : UY m U M5 := ⟨i5, fun k hk j hj => by rw [f5.i _ _ (by omega), f4.i _ _ (by omega)]; exact u2.2 k (by omega) j hj⟩
    have L5 : LY l M5 := (l2.fr f4 (by omega) (fun j => by omega)).fr f5 (by omega) (fun j => by omega)
    refine ⟨zn m, M2, M5, ?_, ?_, ⟨C, U m, nT, bT, m, U, ch, K, l, hR.mut (Or.inl (Nat.le_refl _)) G v2 U2 D2 K2 L2 g v5 V5 L5 okB hR.l15⟩, ?_, ?_⟩
    · unfold x_undo
      rw [hU.2.1, if_neg nz, es, lt_u, ← hM1, i43, ck_zn (by omega) (by omega), ix_zn (by omega), lt_u, rfe r1, bde e2, f2.i _ _ (by unfold rdc; omega), i43]
    · unfold m_undo
      rw [lt_u, show (M2.si 72 13 0).i 72 29 = zn (m + 1) from by rw [si_i, if_neg (by omega)]; exact u2.1, if_neg nz, es, lt_u, ← hM4, e5, i5]
    · rw [g.1, f.1]; omega
    · rw [g.2.1, f.2.1]; omega
end
