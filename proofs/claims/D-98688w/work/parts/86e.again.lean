set_option maxRecDepth 100000
section
variable {C : SV} {A A' B : Nat → Int32} {M M1 M2 N : PM} {nT nU nU' ch a : Nat} {bT : Nat → Nat} {U U' : Nat → Nat → Int32} {K : Nat → Bool × (Nat → Int32) × Nat} {l l' : List Int64}
/-- the reference lays a kept row back -/
theorem ms_unkeep {m : Nat} (hm : m < 2) (hB : ∀ j, j < 44 → N.i 101 (44 * m + j) = B j) (Kc : PM → Option (Int32 × PM)) :
    ∃ N', m_again_L40 (zn m) Kc FU 0 N = Kc N' ∧ Fq (fun o _ => o = 73) N N' ∧ RvY 73 B N' := by
  have := wlp (fun n k (_ : Unit) M2 => m_again_L40 (zn m) Kc n (zn k) M2) 44 FU (FU_lt (by omega)) (fun _ s => s) () (fun k M2 => Fq (fun o _ => o = 73) N M2 ∧ ∀ j, j < k → M2.i 73 j = B j) (fun o => ∃ N', o = Kc N' ∧ Fq (fun o _ => o = 73) N N' ∧ RvY 73 B N') (fun n k M2 hk hI => ?_) (fun n M2 hI => ?_) N ⟨Fq.rf, fun j q => absurd q (by omega)⟩
  · exact this
  · obtain ⟨f, i1⟩ := hI
    have e1 : M2.i 101 (44 * m + k) = B k := (f.i 101 _ (by omega)).trans (hB k hk)
    have e44 : (44 : Int32) * zn m = zn (44 * m) := zn_mull m 44
    refine ⟨M2.si 73 k (B k), ⟨Fq.si (c := fun o _ => o = 73) f rfl, fun j hj => ?_⟩, ?_⟩
    · rw [si_i]
      by_cases e : j = k
      · rw [if_pos ⟨rfl, e⟩, e]
      · rw [if_neg (by omega)]; exact i1 j (by omega)
    · show m_again_L40 (zn m) Kc (n + 1) (zn k) M2 = m_again_L40 (zn m) Kc n (zn (k + 1)) _
      rw [m_again_L40, if_neg (by rw [l_le_zn (by omega) (by omega)]; omega), e44, zn_add, ck_zn (by omega) (by omega), ck_zn (by omega) (by omega), lt_u, lt_u, ix_zn (by omega), ix_zn (by omega), e1, zn_addl]
  · refine ⟨M2, ?_, hI.1, hI.2⟩
    show m_again_L40 (zn m) Kc (n + 1) (zn 44) M2 = _
    rw [m_again_L40, if_pos (by decide)]
end
