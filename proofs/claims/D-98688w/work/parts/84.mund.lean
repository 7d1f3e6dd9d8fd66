set_option maxRecDepth 100000
/-! THE REFERENCE REMEMBERS -/
section
variable {C : SV} {A B : Nat → Int32} {M M1 : PM} {n ch : Nat} {U : Nat → Nat → Int32} {K : Nat → Bool × (Nat → Int32) × Nat}
/-- a row is laid into another, from place d on -/
theorem ms_lay {a b na nb d : Nat} (ha : M.k a = (20, na)) (hb : M.k b = (20, nb)) (h44 : 44 ≤ na) (hd : d + 44 ≤ nb) (hnb : nb ≤ 1000) (hab : a ≠ b) :
    ∃ M', m_lay a b (zn d) M = some ((), M') ∧ Fq (fun o j => o = b ∧ d ≤ j ∧ j < d + 44) M M' ∧ ∀ j, j < 44 → M'.i b (d + j) = M.i a j := by
  unfold m_lay
  have := wlp (fun n k (_ : Unit) M2 => m_lay_L2 a b (zn d) n (zn k) M2) 44 FU (FU_lt (by omega)) (fun _ s => s) () (fun k M2 => Fq (fun o j => o = b ∧ d ≤ j ∧ j < d + 44) M M2 ∧ ∀ j, j < k → M2.i b (d + j) = M.i a j) (fun o => ∃ M', o = some ((), M') ∧ Fq (fun o j => o = b ∧ d ≤ j ∧ j < d + 44) M M' ∧ ∀ j, j < 44 → M'.i b (d + j) = M.i a j) (fun n k M2 hk hI => ?_) (fun n M2 hI => ?_) M ⟨Fq.rf, fun j q => absurd q (by omega)⟩
  · exact this
  · obtain ⟨f, i1⟩ := hI
    have ka : M2.k a = (20, na) := by rw [f.k]; exact ha
    have kb : M2.k b = (20, nb) := by rw [f.k]; exact hb
    have e1 : M2.i a k = M.i a k := f.i a k (by omega)
    refine ⟨M2.si b (d + k) (M.i a k), ⟨Fq.si (c := fun o j => o = b ∧ d ≤ j ∧ j < d + 44) f ⟨rfl, by omega, by omega⟩, fun j hj => ?_⟩, ?_⟩
    · rw [si_i]
      by_cases e : j = k
      · rw [if_pos ⟨rfl, by omega⟩, e]
      · rw [if_neg (by omega)]; exact i1 j (by omega)
    · show m_lay_L2 a b (zn d) (n + 1) (zn k) M2 = m_lay_L2 a b (zn d) n (zn (k + 1)) _
      rw [m_lay_L2, if_neg (by rw [l_le_zn (by omega) (by omega)]; omega), cka_k ka (by omega) (by omega), zn_add, cka_k kb (by omega) (by omega), lt_u, lt_u, ix_zn (by omega), ix_zn (by omega), e1, zn_addl]
  · refine ⟨M2, ?_, hI.1, hI.2⟩
    show m_lay_L2 a b (zn d) (n + 1) (zn 44) M2 = _
    rw [m_lay_L2, if_pos (by decide)]
/-- the remembered rows moved on by one -/
theorem ms_turn (h : Sh M) {c1 : Nat} (Kc : PM → Option (Unit × PM)) : ∃ M', m_remember_L11 c1 Kc FU 0 M = Kc M' ∧ Fq (fun o _ => o = 87) M M' ∧ ∀ j, j < 484 → M'.i 87 j = M.i 87 (j + 44) := by
  have := wlp (fun n k (_ : Unit) M2 => m_remember_L11 c1 Kc n (zn k) M2) 484 FU (FU_lt (by omega)) (fun _ s => s) () (fun k M2 => Fq (fun o _ => o = 87) M M2 ∧ (∀ j, j < k → M2.i 87 j = M.i 87 (j + 44)) ∧ ∀ j, k ≤ j → M2.i 87 j = M.i 87 j) (fun o => ∃ M', o = Kc M' ∧ Fq (fun o _ => o = 87) M M' ∧ ∀ j, j < 484 → M'.i 87 j = M.i 87 (j + 44)) (fun n k M2 hk hI => ?_) (fun n M2 hI => ?_) M ⟨Fq.rf, fun j q => absurd q (by omega), fun _ _ => rfl⟩
  · exact this
  · obtain ⟨f, i1, i2⟩ := hI
    have e1 : M2.i 87 (k + 44) = M.i 87 (k + 44) := i2 (k + 44) (by omega)
    refine ⟨M2.si 87 k (M.i 87 (k + 44)), ⟨Fq.si (c := fun o _ => o = 87) f rfl, fun j hj => ?_, fun j hj => ?_⟩, ?_⟩
    · rw [si_i]
      by_cases e : j = k
      · rw [if_pos ⟨rfl, e⟩, e]
      · rw [if_neg (by omega)]; exact i1 j (by omega)
    · rw [si_i, if_neg (by omega)]; exact i2 j (by omega)
    · show m_remember_L11 c1 Kc (n + 1) (zn k) M2 = m_remember_L11 c1 Kc n (zn (k + 1)) _
      rw [m_remember_L11, if_neg (by rw [l_le_zn (by omega) (by omega)]; omega), zn_addl, ck_zn (by omega) (by omega), ck_zn (by omega) (by omega), lt_u, lt_u, ix_zn (by omega), ix_zn (by omega), e1, zn_addl]
  · refine ⟨M2, ?_, hI.1, hI.2.1⟩
    show m_remember_L11 c1 Kc (n + 1) (zn 484) M2 = _
    rw [m_remember_L11, if_pos (by decide)]
abbrev rcl (o j : Nat) : Prop := o = 87 ∨ (o = 72 ∧ j = 29)
theorem ms_remember (h : Sh M) (hn : n ≤ 12) (hU : UY n U M) {a : Nat} (ha : a = 73 ∨ a = 88) (hv : RvY a B M) :
    ∃ M', m_remember a M = some ((), M') ∧ Fq rcl M M' ∧ UY (psN n) (psU n U B) M' := by
  have ka : M.k a = (20, 44) := by
    rcases ha with e | e
    · rw [e]; exact kd73 h
    · rw [e]; exact kd88 h
  have kb := kd87 h
  obtain ⟨h29, hrow⟩ := hU
  have fin : ∀ (N : PM) (m : Nat) (V : Nat → Nat → Int32), Fq rcl M N → m < 12 → N.i 72 29 = zn m → (∀ k, k < m → ∀ j, j < 44 → N.i 87 (44 * k + j) = V k j) →
      ∃ M', (bd (m_lay a 87 (44 * (N.i 72 29)) N) fun _ M2 => lt (M2.si 72 29 ((M2.i 72 29) + 1)) fun M3 => some ((), M3)) = some ((), M') ∧ Fq rcl M M' ∧ UY (m + 1) (fun k => if k = m then B else V k) M' := by
    intro N m V f hm i29 hV
    obtain ⟨M2, e2, f2, v2⟩ := ms_lay (M := N) (a := a) (b := 87) (na := 44) (nb := 528) (d := 44 * m) (by rw [f.k]; exact ka) (by rw [f.k]; exact kb) (by omega) (by omega) (by omega) (by omega)
    have i2 : M2.i 72 29 = zn m := by rw [f2.i _ _ (by omega)]; exact i29
    have e44 : (44 : Int32) * zn m = zn (44 * m) := zn_mull m 44
    refine ⟨M2.si 72 29 (zn (m + 1)), ?_, ((f.tr (f2.mo (d := rcl) (fun o j q => Or.inl q.1))).si (Or.inr ⟨rfl, rfl⟩)), by rw [si_i, if_pos ⟨rfl, rfl⟩], fun k hk j hj => ?_⟩
    · rw [i29, e44, bde e2, lt_u, i2, zn_addl]
    · show _ = (if k = m then B else V k) j
      rw [si_i, if_neg (by omega)]
      by_cases e : k = m
      · rw [if_pos e, e, v2 j hj, f.i a j (by unfold rcl; omega)]
        exact hv j hj
      · rw [if_neg e, f2.i 87 _ (by omega)]
        exact hV k (by omega) j hj
  unfold m_remember
  by_cases n12 : n = 12
  · have e12 : M.i 72 29 = 12 := by rw [h29, n12]; rfl
    have epN : psN n = 12 := if_pos n12
    have epU : psU n U B = fun k => if k = 11 then B else U (k + 1) := if_pos n12
    obtain ⟨M2, e2, f2, t2⟩ := ms_turn h (c1 := a) (fun (M6 : PM) => lt (M6.si 72 29 ((M6.i 72 29) - 1)) fun M7 => (bd (m_lay a 87 (44 * (M7.i 72 29)) M7) fun _ M2 => lt (M2.si 72 29 ((M2.i 72 29) + 1)) fun M3 => some ((), M3)))
    have i2 : M2.i 72 29 = zn 12 := by rw [f2.i _ _ (by omega), e12]; rfl
    have z11 : zn 12 - 1 = zn 11 := by decide
    obtain ⟨M', e', f', u'⟩ := fin (M2.si 72 29 (zn 11)) 11 (fun k => U (k + 1)) ((f2.mo (d := rcl) (fun o j q => Or.inl q)).si (Or.inr ⟨rfl, rfl⟩)) (by omega) (by rw [si_i, if_pos ⟨rfl, rfl⟩]) (fun k hk j hj => by
      rw [si_i, if_neg (by omega), t2 _ (by omega), show 44 * k + j + 44 = 44 * (k + 1) + j by omega]
      exact hrow (k + 1) (by omega) j hj)
    refine ⟨M', ?_, f', by rw [epN, epU]; exact u'⟩
    rw [jn_u, if_pos e12]
    refine e2.trans ?_
    show lt _ _ = _
    rw [lt_u, i2, z11]
    exact e'
  · have e12 : ¬ M.i 72 29 = 12 := by
      rw [h29]
      intro w
      have w2 : zn n = zn 12 := w
      have := zn_inj (by omega) (by omega) w2
      omega
    have epN : psN n = n + 1 := if_neg n12
    have epU : psU n U B = fun k => if k = n then B else U k := if_neg n12
    obtain ⟨M', e', f', u'⟩ := fin M n U Fq.rf (by omega) h29 hrow
    refine ⟨M', ?_, f', by rw [epN, epU]; exact u'⟩
    rw [jn_u, if_neg e12]
    exact e'
/-- a row is laid back -/
theorem ms_back {n a d : Nat} (f : Nat → Int32) (hd : d + 44 ≤ 528) : True := trivial
end
