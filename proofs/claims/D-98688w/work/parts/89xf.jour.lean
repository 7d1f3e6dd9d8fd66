set_option maxRecDepth 100000
/-! JOURNEYS: acts one behind another -/
def jrJ (C : SV) (F : Nat → DJ) : Nat → Nat → (Nat → Int32) → Int32 → Nat × (Nat → Int32) × Int32
  | 0, i, A, s => (i, A, s)
  | r + 1, i, A, s => match actJ C A (F i) with
    | none => (i, A, s)
    | some (A', t) => jrJ C F r (i + 1) A' (s + t)
theorem shR_jxc : ∀ q ∈ shR, ¬ jxc q.1 q.2.1 := by decide +kernel
theorem shR_jyc : ∀ q ∈ shR, ¬ jyc q.1 q.2.1 := by decide +kernel
section
variable {C : SV} {A : Nat → Int32} {M M1 : PM} {k : Nat} {F : Nat → DJ}
theorem jrJ_n {r i : Nat} {s : Int32} (h : actJ C A (F i) = none) : jrJ C F (r + 1) i A s = (i, A, s) := by
  rw [jrJ, h]
theorem jrJ_s {r i : Nat} {s t : Int32} {A' : Nat → Int32} (h : actJ C A (F i) = some (A', t)) : jrJ C F (r + 1) i A s = jrJ C F r (i + 1) A' (s + t) := by
  rw [jrJ, h]
theorem jrJ_ok (hC : OKC C) : ∀ r i A s, OKA C A → OKA C (jrJ C F r i A s).2.1 ∧ (jrJ C F r i A s).1 ≤ i + r := by
  intro r
  induction r with
  | zero => intro i A s h; exact ⟨h, Nat.le_refl _⟩
  | succ r ih =>
    intro i A s h
    rcases e : actJ C A (F i) with _ | ⟨A', t⟩
    · rw [jrJ_n e]; exact ⟨h, by show i ≤ _; omega⟩
    · rw [jrJ_s e]
      obtain ⟨h1, h2⟩ := ih (i + 1) A' (s + t) (ok_act h hC e)
      exact ⟨h1, by omega⟩
theorem CX.jx (h : CX C M) (f : Fq jxc M M1) : CX C M1 := h.fr f shR_jxc (fun o j q => by unfold jxc sxc ca rdc; omega)
theorem CY.jy (h : CY 83 C M) (f : Fq jyc M M1) : CY 83 C M1 := h.fr f shR_jyc (fun o j q => by unfold jyc syc ca; omega)
theorem xs_loopJ {kk : Nat} (hkk : kk ≤ 40) (Kc : Int32 → PM → Option (Int32 × PM)) : ∀ r i A s n M, i + r = kk → r < n → CX C M → RvX 21 A M → OKA C A → M.i 20 47 = zn kk → (∀ j, j < kk → okJ (F j) ∧ M.i 57 j = zn (F j).1 ∧ M.i 58 j = zn (F j).2) → M.i 20 48 = s → ∃ M', x_journey_L90 Kc n (zn i) M = Kc (zn (jrJ C F r i A s).1) M' ∧ Fq jxc M M' ∧ RvX 21 (jrJ C F r i A s).2.1 M' ∧ M'.i 20 48 = (jrJ C F r i A s).2.2 := by
  intro r
  induction r with
  | zero =>
    intro i A s n M hi hn hx hv ok h47 hF h48
    obtain ⟨n, rfl⟩ : ∃ m, n = m + 1 := ⟨n - 1, by omega⟩
    refine ⟨M, ?_, Fq.rf, hv, h48⟩
    rw [x_journey_L90]
    simp only [jn_u]
    rw [h47, if_pos (by rw [show kk = i by omega]; exact Int32.le_refl _)]
    rfl
  | succ r ih =>
    intro i A s n M hi hn hx hv ok h47 hF h48
    obtain ⟨n, rfl⟩ : ∃ m, n = m + 1 := ⟨n - 1, by omega⟩
    obtain ⟨h1, h2, h3⟩ := hF i (by omega)
    obtain ⟨ds, dn⟩ := xs_does hx hv ok h1 (show i < 40 by omega) h2 h3
    have hun : x_journey_L90 Kc (n + 1) (zn i) M = bd (x_does (zn i) M) fun v11 M13 => if v11 = 0 then Kc (zn i) M13 else x_journey_L90 Kc n (zn (i + 1)) M13 := by
      rw [x_journey_L90]
      simp only [jn_u, lt_u]
      rw [h47, if_neg (by rw [zn_le (by omega) (by omega)]; omega), zn_addl]
    rw [hun]
    rcases e : actJ C A (F i) with _ | ⟨A', t⟩
    · obtain ⟨M', e1, f1, v1, i1⟩ := dn e
      rw [jrJ_n e, bde e1, if_pos rfl]
      exact ⟨M', rfl, f1, v1, i1.trans h48⟩
    · obtain ⟨M', e1, f1, v1, i1⟩ := ds A' t e
      rw [jrJ_s e, bde e1, if_neg (by decide)]
      obtain ⟨M2, e2, f2, v2, i2⟩ := ih (i + 1) A' (s + t) n M' (by omega) (by omega) (hx.jx f1) v1 (ok_act ok hx.ok e) ((f1.i _ _ (by unfold jxc sxc ca rdc; omega)).trans h47) (fun j hj => by
        obtain ⟨w1, w2, w3⟩ := hF j hj
        exact ⟨w1, (f1.i _ _ (by unfold jxc sxc ca rdc; omega)).trans w2, (f1.i _ _ (by unfold jxc sxc ca rdc; omega)).trans w3⟩) (by rw [i1, h48])
      exact ⟨M2, e2, f1.tr f2, v2, i2⟩
theorem ms_loopJ {kk : Nat} (hkk : kk ≤ 60) (Kc : Int32 → PM → Option (Int32 × PM)) : ∀ r i A s n M, i + r = kk → r < n → CY 83 C M → RvY 73 A M → OKA C A → yiJ kk F M → M.i 72 33 = s → ∃ M', m_journey_L90 (zn kk) Kc n (zn i) M = Kc (zn (jrJ C F r i A s).1) M' ∧ Fq jyc M M' ∧ RvY 73 (jrJ C F r i A s).2.1 M' ∧ M'.i 72 33 = (jrJ C F r i A s).2.2 := by
  intro r
  induction r with
  | zero =>
    intro i A s n M hi hn hx hv ok hF h33
    obtain ⟨n, rfl⟩ : ∃ m, n = m + 1 := ⟨n - 1, by omega⟩
    refine ⟨M, ?_, Fq.rf, hv, h33⟩
    rw [m_journey_L90]
    simp only [jn_u]
    rw [if_pos (by rw [show kk = i by omega]; exact Int32.le_refl _)]
    rfl
  | succ r ih =>
    intro i A s n M hi hn hx hv ok hF h33
    obtain ⟨n, rfl⟩ : ∃ m, n = m + 1 := ⟨n - 1, by omega⟩
    obtain ⟨h1, h2, h3, h4⟩ := hF i (by omega)
    obtain ⟨ds, dn⟩ := ms_act hx hv ok h1 (p3 := M.i 89 (3 * i + 2)) h4
    have e3 : (3 : Int32) * zn i = zn (3 * i) := zn_mull i 3
    have hun : m_journey_L90 (zn kk) Kc (n + 1) (zn i) M = bd (m_act (if isd (F i).1 = true then 115 else zn (F i).1) (zn (F i).2) (M.i 89 (3 * i + 2)) M) fun v11 M13 => if v11 = 0 then Kc (zn i) M13 else m_journey_L90 (zn kk) Kc n (zn (i + 1)) M13 := by
      rw [m_journey_L90]
      simp only [jn_u, lt_u, e3, zn_addl]
      rw [if_neg (by rw [zn_le (by omega) (by omega)]; omega), ck_zn (by omega) (by omega), ck_zn (by omega) (by omega), ck_zn (by omega) (by omega), ix_zn (by omega), ix_zn (by omega), ix_zn (by omega), h2, h3]
    rw [hun]
    rcases e : actJ C A (F i) with _ | ⟨A', t⟩
    · obtain ⟨M', e1, f1, v1, i1⟩ := dn e
      rw [jrJ_n e, bde e1, if_pos rfl]
      exact ⟨M', rfl, f1, v1, i1.trans h33⟩
    · obtain ⟨M', e1, f1, v1, i1⟩ := ds A' t e
      rw [jrJ_s e, bde e1, if_neg (by decide)]
      obtain ⟨M2, e2, f2, v2, i2⟩ := ih (i + 1) A' (s + t) n M' (by omega) (by omega) (hx.jy f1) v1 (ok_act ok hx.ok e) (fun j hj => by
        obtain ⟨w1, w2, w3, w4⟩ := hF j hj
        exact ⟨w1, (f1.i _ _ (by unfold jyc syc ca; omega)).trans w2, (f1.i _ _ (by unfold jyc syc ca; omega)).trans w3, fun w => (f1.i _ _ (by unfold jyc syc ca; omega)).trans (w4 w)⟩) (by rw [i1, h33])
      exact ⟨M2, e2, f1.tr f2, v2, i2⟩
end
