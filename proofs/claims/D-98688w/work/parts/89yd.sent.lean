set_option maxRecDepth 100000
/-! SENTENCES: the reference -/
section
variable {C : SV} {A : Nat → Int32} {M M1 : PM} {b : Nat → Nat} {n i w s : Nat}
abbrev csY (o j : Nat) : Prop := ca o j ∨ o = 90
theorem shR_csY : ∀ q ∈ shR, ¬ csY q.1 q.2.1 := by decide +kernel
theorem TY.csy (h : TY 0 b M) (f : Fq csY M M1) : TY 0 b M1 := h.fr f (by unfold csY ca; omega) (fun j => by unfold csY ca; omega)
theorem CY.csy (h : CY 83 C M) (f : Fq csY M M1) : CY 83 C M1 := h.fr f shR_csY (fun o j q => by unfold csY ca; omega)
theorem RvY.csy (h : RvY 73 A M) (f : Fq csY M M1) : RvY 73 A M1 := h.fr f (fun j => by unfold csY ca; omega)
theorem rs_t (hi : i < n) {I : Nat} {st hr : Int32} (h : rsX I 90 C b n st hr (i + 1) M) (ht : tlS C b n i w ≠ 0) : i + tlS C b n i w ≤ n ∧ ∃ v, M.i 90 (i + tlS C b n i w) = zn v ∧ v ≤ I ∧ cfS I C b n st hr i (VP I C b n st hr (n - (i + 1))) w = min I (tN C st hr w + v) ∧ v = (VP I C b n st hr (n - (i + tlS C b n i w))).1 := by
  obtain ⟨r1, r2⟩ := rs_p hi h
  obtain ⟨l1, l2⟩ := VP_le (C := C) (b := b) (n := n) (st := st) (hr := hr) (I := I) (n - (i + 1))
  obtain ⟨k1, k2⟩ := tlS_2 (C := C) (b := b) (n := n) (i := i) (w := w)
  have e2 : tlS C b n i w = 2 → (VP I C b n st hr (n - (i + 1))).2 = (VP I C b n st hr (n - (i + 2))).1 := fun g => by
    have := k2 g
    obtain ⟨d, hd⟩ : ∃ d, n - (i + 1) = d + 1 := ⟨n - (i + 2), by omega⟩
    rw [hd, show n - (i + 2) = d by omega]
    rfl
  unfold cfS
  rw [if_neg ht]
  by_cases g1 : tlS C b n i w = 1
  · rw [if_pos g1, g1]
    exact ⟨by omega, _, r1, l1, rfl, rfl⟩
  · have g2 : tlS C b n i w = 2 := by omega
    have h3 := k2 g2
    rw [if_neg g1, g2]
    exact ⟨by omega, _, r2 h3, l2, rfl, e2 g2⟩
theorem ms_costs (h : CY 83 C M) (ha : RvY 73 A M) (hd : dgs b n) (hT : TY 0 b M) (hi : i < n) (hr : rsX 100000000 90 C b n (zn s) (A 12) (i + 1) M) (h90 : M.i 90 i = zn 100000000) (Kc : PM → Option (Int32 × PM)) : ∃ M', m_sentence_L98 (zn s) (zn n) (zn i) Kc FU 0 M = Kc M' ∧ Fq (fun o j => ca o j ∨ (o = 90 ∧ j = i)) M M' ∧ M'.i 90 i = zn (VP 100000000 C b n (zn s) (A 12) (n - i)).1 := by
  have b1 := h.ok.nw10
  have n12 := hd.1
  rw [VP_s hi]
  refine wlp (fun nn k (_ : Unit) M2 => m_sentence_L98 (zn s) (zn n) (zn i) Kc nn (zn k) M2) C.nw FU (FU_lt (by omega)) (fun _ s => s) () (fun k M2 => Fq (fun o j => ca o j ∨ (o = 90 ∧ j = i)) M M2 ∧ M2.i 90 i = zn (mnS 100000000 C b n (zn s) (A 12) i (VP 100000000 C b n (zn s) (A 12) (n - (i + 1))) k)) (fun o => ∃ M', o = Kc M' ∧ Fq (fun o j => ca o j ∨ (o = 90 ∧ j = i)) M M' ∧ M'.i 90 i = zn (mnS 100000000 C b n (zn s) (A 12) i (VP 100000000 C b n (zn s) (A 12) (n - (i + 1))) C.nw)) (fun nn k M2 hk hI => ?_) (fun nn M2 hI => ?_) M ⟨Fq.rf, h90⟩
  · obtain ⟨f, v⟩ := hI
    have fc : Fq csY M M2 := f.mo (fun o j q => q.elim Or.inl (fun w => Or.inr w.1))
    have y2 := h.csy fc
    have a2 := ha.csy fc
    have T2 := hT.csy fc
    have r2 : rsX 100000000 90 C b n (zn s) (A 12) (i + 1) M2 := fun j h1 h2 => by rw [f.i _ _ (by unfold ca; omega)]; exact hr j h1 h2
    have et := ms_tellsFrom y2 hd T2.2.2 hk hi
    obtain ⟨k1, k2⟩ := tlS_2 (C := C) (b := b) (n := n) (i := i) (w := k)
    have m1 := mnS_le (C := C) (b := b) (n := n) (st := zn s) (hr := A 12) (I := 100000000) (i := i) (p := VP 100000000 C b n (zn s) (A 12) (n - (i + 1))) k
    have es : mnS 100000000 C b n (zn s) (A 12) i (VP 100000000 C b n (zn s) (A 12) (n - (i + 1))) (k + 1) = min (mnS 100000000 C b n (zn s) (A 12) i (VP 100000000 C b n (zn s) (A 12) (n - (i + 1))) k) (cfS 100000000 C b n (zn s) (A 12) i (VP 100000000 C b n (zn s) (A 12) (n - (i + 1))) k) := rfl
    have hst : m_sentence_L98 (zn s) (zn n) (zn i) Kc (nn + 1) (zn k) M2 = if zn (tlS C b n i k) ≤ 0 then m_sentence_L98 (zn s) (zn n) (zn i) Kc nn (zn (k + 1)) M2 else (ck (zn i) 13 <| bd (m_tollNow (zn k) (zn s) M2) fun v11 M14 => bd (m_tells (zn k) (zn i) (zn n) M14) fun v12 M15 => ck (zn i + v12) 13 <| ck (zn i) 13 <| m_sentence_L98 (zn s) (zn n) (zn i) Kc nn (zn (k + 1)) (M15.si 90 (ix (zn i)) (imin (M2.i 90 (ix (zn i))) (v11 + (M15.i 90 (ix (zn i + v12))))))) := by
      rw [m_sentence_L98, y2.nw, if_neg (by rw [zn_le (by omega) (by omega)]; omega)]
      simp only [jn_u]
      rw [bde et]
      simp only [lt_u, zn_addl]
    by_cases g : tlS C b n i k = 0
    · refine ⟨M2, ⟨f, ?_⟩, ?_⟩
      · rw [v, es]
        unfold cfS
        rw [if_pos g, Nat.min_eq_left m1]
      · show m_sentence_L98 (zn s) (zn n) (zn i) Kc (nn + 1) (zn k) M2 = m_sentence_L98 (zn s) (zn n) (zn i) Kc nn (zn (k + 1)) M2
        rw [hst, g, if_pos (show zn 0 ≤ 0 by decide)]
    · have nz : ¬ zn (tlS C b n i k) ≤ 0 := by
        have := zn_le (a := tlS C b n i k) (b := 0) (by omega) (by omega)
        rw [show zn 0 = (0 : Int32) from rfl] at this
        rw [this]; omega
      obtain ⟨q1, v0, q2, q3, q4, -⟩ := rs_t hi r2 g
      obtain ⟨t1, t2⟩ := tN_e h.ok hk (zn s) (A 12)
      obtain ⟨M3, e3, f3⟩ := ms_tollNow y2 hk (zn s)
      rw [hy12 a2, t1] at e3
      have et3 := ms_tellsFrom (y2.fa f3) hd (T2.csy (f3.mo (fun o j q => Or.inl q))).2.2 hk hi
      obtain ⟨M5, hM5⟩ : ∃ M5, M5 = M3.si 90 i (zn (mnS 100000000 C b n (zn s) (A 12) i (VP 100000000 C b n (zn s) (A 12) (n - (i + 1))) (k + 1))) := ⟨_, rfl⟩
      refine ⟨M5, ⟨f.tr ?_, by rw [hM5, si_i, if_pos ⟨rfl, rfl⟩]⟩, ?_⟩
      · rw [hM5]
        exact Fq.si (c := fun o j => ca o j ∨ (o = 90 ∧ j = i)) (f3.mo (fun o j q => Or.inl q)) (Or.inr ⟨rfl, rfl⟩)
      · show m_sentence_L98 (zn s) (zn n) (zn i) Kc (nn + 1) (zn k) M2 = m_sentence_L98 (zn s) (zn n) (zn i) Kc nn (zn (k + 1)) M5
        rw [hst, if_neg nz, ck_zn (by omega) (by omega), bde e3, bde et3, zn_add, ck_zn (by omega) (by omega), ck_zn (by omega) (by omega), ix_zn (by omega), ix_zn (by omega), v, f3.i 90 _ (by unfold ca; omega), q2, zn_add, imin_zn (by omega) (by omega), hM5, es, q4]
        congr 3
        omega
  · obtain ⟨f, v⟩ := hI
    have fc : Fq csY M M2 := f.mo (fun o j q => q.elim Or.inl (fun w => Or.inr w.1))
    refine ⟨M2, ?_, f, v⟩
    show m_sentence_L98 (zn s) (zn n) (zn i) Kc (nn + 1) (zn C.nw) M2 = _
    rw [m_sentence_L98, (h.csy fc).nw, if_pos (Int32.le_refl _)]
theorem ms_allCosts (hd : dgs b n) (Kc : PM → Option (Int32 × PM)) : ∀ i, i < n → ∀ f M, i + 1 < f → CY 83 C M → RvY 73 A M → TY 0 b M → rsX 100000000 90 C b n (zn s) (A 12) (i + 1) M → ∃ M', m_sentence_L82 (zn s) (zn n) Kc f (zn i) M = Kc M' ∧ Fq csY M M' ∧ rsX 100000000 90 C b n (zn s) (A 12) 0 M' := by
  intro i
  have n12 := hd.1
  induction i with
  | zero =>
    intro hi f M hf hx ha hT hr
    obtain ⟨f, rfl⟩ : ∃ m, f = m + 1 + 1 := ⟨f - 2, by omega⟩
    obtain ⟨N, hN⟩ : ∃ N, N = M.si 90 0 (zn 100000000) := ⟨_, rfl⟩
    have fN : Fq csY M N := by rw [hN]; exact Fq.si (c := csY) Fq.rf (Or.inr rfl)
    have fN' : Fq (fun o j => o = 90 ∧ j = 0) M N := by rw [hN]; exact Fq.si (c := fun o j => o = 90 ∧ j = 0) Fq.rf ⟨rfl, rfl⟩
    obtain ⟨Kd, hKd⟩ : ∃ Kd : PM → Option (Int32 × PM), Kd = (fun (M17 : PM) => lt (zn 0 + (-1)) fun v13 => m_sentence_L82 (zn s) (zn n) Kc (f + 1) v13 M17) := ⟨_, rfl⟩
    obtain ⟨M2, e2, f2, v2⟩ := ms_costs (hx.csy fN) (ha.csy fN) hd (hT.csy fN) hi (fun j h1 h2 => by rw [fN'.i _ _ (by omega)]; exact hr j h1 h2) (by rw [hN, si_i, if_pos ⟨rfl, rfl⟩]) Kd
    have f2c : Fq csY N M2 := f2.mo (fun o j q => q.elim Or.inl (fun w => Or.inr w.1))
    refine ⟨M2, ?_, fN.tr f2c, fun j h1 h2 => ?_⟩
    · rw [m_sentence_L82, if_neg (by decide), ck_zn (by omega) (by omega), ix_zn (by omega), b8f, lt_u, ← hN, ← hKd, e2, hKd]
      simp only [lt_u]
      rw [m_sentence_L82, if_pos (by decide)]
    · rcases Nat.eq_zero_or_pos j with e | e
      · subst e; exact v2
      · rw [f2.i _ _ (by unfold ca; omega), fN'.i _ _ (by omega)]; exact hr j (by omega) h2
  | succ i ih =>
    intro hi f M hf hx ha hT hr
    obtain ⟨f, rfl⟩ : ∃ m, f = m + 1 := ⟨f - 1, by omega⟩
    obtain ⟨N, hN⟩ : ∃ N, N = M.si 90 (i + 1) (zn 100000000) := ⟨_, rfl⟩
    have fN : Fq csY M N := by rw [hN]; exact Fq.si (c := csY) Fq.rf (Or.inr rfl)
    have fN' : Fq (fun o j => o = 90 ∧ j = i + 1) M N := by rw [hN]; exact Fq.si (c := fun o j => o = 90 ∧ j = i + 1) Fq.rf ⟨rfl, rfl⟩
    obtain ⟨Kd, hKd⟩ : ∃ Kd : PM → Option (Int32 × PM), Kd = (fun (M17 : PM) => lt (zn (i + 1) + (-1)) fun v13 => m_sentence_L82 (zn s) (zn n) Kc f v13 M17) := ⟨_, rfl⟩
    obtain ⟨M2, e2, f2, v2⟩ := ms_costs (hx.csy fN) (ha.csy fN) hd (hT.csy fN) hi (fun j h1 h2 => by rw [fN'.i _ _ (by omega)]; exact hr j h1 h2) (by rw [hN, si_i, if_pos ⟨rfl, rfl⟩]) Kd
    have f2c : Fq csY N M2 := f2.mo (fun o j q => q.elim Or.inl (fun w => Or.inr w.1))
    obtain ⟨M3, e3, f3, r3⟩ := ih (by omega) f M2 (by omega) ((hx.csy fN).csy f2c) ((ha.csy fN).csy f2c) ((hT.csy fN).csy f2c) (fun j h1 h2 => by
      by_cases e : j = i + 1
      · subst e; exact v2
      · rw [f2.i _ _ (by unfold ca; omega), fN'.i _ _ (by omega)]; exact hr j (by omega) h2)
    refine ⟨M3, ?_, (fN.tr f2c).tr f3, r3⟩
    have em : zn (i + 1) + (-1) = zn i := by
      rw [← zn_add i 1, Int32.add_assoc, show zn 1 + (-1 : Int32) = 0 by decide, Int32.add_zero]
    rw [m_sentence_L82, if_neg (Int32.not_lt.mpr (zn_nonneg (by omega))), ck_zn (by omega) (by omega), ix_zn (by omega), b8f, lt_u, ← hN, ← hKd, e2, hKd]
    simp only [lt_u, em]
    exact e3
theorem ms_find (hd : dgs b n) (hi : i < n) (hv0 : (VP 100000000 C b n (zn s) (A 12) (n - i)).1 < 100000000) (Kc : Int32 → PM → Option (Int32 × PM)) : ∀ d k f M, k + d = C.nw → d < f → CY 83 C M → RvY 73 A M → TY 0 b M → rsX 100000000 90 C b n (zn s) (A 12) 0 M → ∀ w, ffi (PS 100000000 C b n (zn s) (A 12) i) d k = some w → ∃ M', m_sentence_L199 (zn s) (zn n) (zn i) Kc f (zn k) M = Kc (zn w) M' ∧ Fq ca M M' := by
  intro d
  have n12 := hd.1
  induction d with
  | zero => intro k f M _ _ _ _ _ _ w h; cases h
  | succ d ih =>
    intro k f M hk hf hx ha hT hr w h
    have b1 := hx.ok.nw10
    have hkw : k < C.nw := by omega
    obtain ⟨f, rfl⟩ : ∃ m, f = m + 1 := ⟨f - 1, by omega⟩
    have et := ms_tellsFrom hx hd hT.2.2 hkw hi
    obtain ⟨k1, k2⟩ := tlS_2 (C := C) (b := b) (n := n) (i := i) (w := k)
    unfold ffi at h
    have hst : m_sentence_L199 (zn s) (zn n) (zn i) Kc (f + 1) (zn k) M = if zn (tlS C b n i k) = 0 then m_sentence_L199 (zn s) (zn n) (zn i) Kc f (zn (k + 1)) M else (bd (m_tollNow (zn k) (zn s) M) fun v18 M24 => bd (m_tells (zn k) (zn i) (zn n) M24) fun v19 M25 => ck (zn i + v19) 13 <| ck (zn i) 13 <| if (v18 + (M25.i 90 (ix (zn i + v19)))) = (M25.i 90 (ix (zn i))) then (Kc (zn k) M25) else m_sentence_L199 (zn s) (zn n) (zn i) Kc f (zn (k + 1)) M25) := by
      rw [m_sentence_L199, bde et]
      simp only [jn_u, lt_u, zn_addl]
    rw [hst]
    by_cases g : tlS C b n i k = 0
    · have hno : ¬ PS 100000000 C b n (zn s) (A 12) i k = true := fun q => by
        have q' := of_decide_eq_true q
        unfold cfS at q'
        rw [if_pos g] at q'
        omega
      rw [if_neg hno] at h
      rw [g, if_pos (show zn 0 = 0 from rfl)]
      exact ih (k + 1) f M (by omega) (by omega) hx ha hT hr w h
    · rw [if_neg (by rw [zn_eq_l (by omega) (by omega)]; exact g)]
      obtain ⟨q1, v0, q2, q3, q4, -⟩ := rs_t (w := k) hi (fun j h1 h2 => hr j (Nat.zero_le _) h2) g
      obtain ⟨t1, t2⟩ := tN_e hx.ok hkw (zn s) (A 12)
      obtain ⟨M3, e3, f3⟩ := ms_tollNow hx hkw (zn s)
      rw [hy12 ha, t1] at e3
      have f3c : Fq csY M M3 := f3.mo (fun o j q => Or.inl q)
      have et3 := ms_tellsFrom (hx.csy f3c) hd (hT.csy f3c).2.2 hkw hi
      have hv := hr i (Nat.zero_le _) (by omega)
      rw [bde e3, bde et3, zn_add, ck_zn (by omega) (by omega), ck_zn (by omega) (by omega), ix_zn (by omega), ix_zn (by omega), f3.i 90 _ (by unfold ca; omega), f3.i 90 _ (by unfold ca; omega), q2, hv, zn_add]
      by_cases g5 : tN C (zn s) (A 12) k + v0 = (VP 100000000 C b n (zn s) (A 12) (n - i)).1
      · have hy : PS 100000000 C b n (zn s) (A 12) i k = true := decide_eq_true (by rw [q4]; omega)
        rw [if_pos hy] at h
        cases h
        rw [if_pos (by rw [g5])]
        exact ⟨M3, rfl, f3⟩
      · have hno : ¬ PS 100000000 C b n (zn s) (A 12) i k = true := fun q => by
          have q' := of_decide_eq_true q
          rw [q4] at q'
          omega
        rw [if_neg hno] at h
        rw [if_neg (by rw [zn_eq (by omega) (by omega)]; exact g5)]
        obtain ⟨M4, e4, f4⟩ := ih (k + 1) f M3 (by omega) (by omega) (hx.csy f3c) (ha.csy f3c) (hT.csy f3c) (fun j h1 h2 => by rw [f3.i _ _ (by unfold ca; omega)]; exact hr j h1 h2) w h
        exact ⟨M4, e4, f3.tr f4⟩
abbrev crY (o j : Nat) : Prop := ca o j ∨ rwy o j
theorem shR_crY : ∀ q ∈ shR, ¬ crY q.1 q.2.1 := by decide +kernel
theorem ms_tellS (hd : dgs b n) (Kc : PM → Option (Int32 × PM)) : ∀ f i l F M, n - i ≤ f → f < F → i ≤ n → l.length + f ≤ 15 → (VP 100000000 C b n (zn s) (A 12) (n - i)).1 < 100000000 → CY 83 C M → RvY 73 A M → TY 0 b M → rsX 100000000 90 C b n (zn s) (A 12) 0 M → LY l M → ∃ M', m_sentence_L191 (zn s) (zn n) Kc F (zn i) M = Kc M' ∧ Fq crY M M' ∧ LY (l ++ lsS 100000000 C b n (zn s) (A 12) f i) M' := by
  intro f
  have n12 := hd.1
  induction f with
  | zero =>
    intro i l F M h1 h2 hi hl hv hx ha hT hr hL
    obtain ⟨F, rfl⟩ : ∃ m, F = m + 1 := ⟨F - 1, by omega⟩
    refine ⟨M, ?_, Fq.rf, by unfold lsS; rw [List.append_nil]; exact hL⟩
    rw [m_sentence_L191, if_pos (by rw [zn_le (by omega) (by omega)]; omega)]
  | succ f ih =>
    intro i l F M h1 h2 hi hl hv hx ha hT hr hL
    obtain ⟨F, rfl⟩ : ∃ m, F = m + 1 := ⟨F - 1, by omega⟩
    unfold lsS
    by_cases g : n ≤ i
    · rw [if_pos g, List.append_nil]
      refine ⟨M, ?_, Fq.rf, hL⟩
      rw [m_sentence_L191, if_pos (by rw [zn_le (by omega) (by omega)]; omega)]
    · rw [if_neg g]
      have hin : i < n := by omega
      obtain ⟨w, w1, w2, w3, w4, w5⟩ := wdS_s hin hv
      rw [w1]
      show ∃ M', _ ∧ _ ∧ LY (l ++ ((zn w).toInt64 :: lsS 100000000 C b n (zn s) (A 12) f (i + tlS C b n i w))) M'
      obtain ⟨Kd, hKd⟩ : ∃ Kd : Int32 → PM → Option (Int32 × PM), Kd = (fun (v20 : Int32) (M26 : PM) => bd (m_tell (Int32.toInt64 v20) M26) fun _ M27 => bd (m_tells v20 (zn i) (zn n) M27) fun v21 M28 => lt (zn i + v21) fun v22 => m_sentence_L191 (zn s) (zn n) Kc F v22 M28) := ⟨_, rfl⟩
      obtain ⟨M2, e2, f2⟩ := ms_find hd hin hv Kd C.nw 0 FU M (by omega) (FU_lt (by have := hx.ok.nw10; omega)) hx ha hT hr w w1
      obtain ⟨M3, e3, f3, l3⟩ := ms_tell (hL.fa f2) (by omega) (zn w).toInt64
      have f23 : Fq crY M M3 := (f2.mo (d := crY) (fun o j q => Or.inl q)).tr (f3.mo (d := crY) (fun o j q => Or.inr q))
      have x3 : CY 83 C M3 := hx.fr f23 shR_crY (fun o j q => by unfold crY ca rwy; omega)
      have a3 : RvY 73 A M3 := ha.fr f23 (fun j => by unfold crY ca rwy; omega)
      have X3 : TY 0 b M3 := hT.fr f23 (by unfold crY ca rwy; omega) (fun j => by unfold crY ca rwy; omega)
      have r3 : rsX 100000000 90 C b n (zn s) (A 12) 0 M3 := fun j h1 h2 => by rw [f23.i _ _ (by unfold crY ca rwy; omega)]; exact hr j h1 h2
      obtain ⟨M4, e4, f4, l4⟩ := ih (i + tlS C b n i w) (l ++ [(zn w).toInt64]) F M3 (by omega) (by omega) w4 (by rw [List.length_append]; show l.length + 1 + f ≤ 15; omega) w5 x3 a3 X3 r3 l3
      refine ⟨M4, ?_, f23.tr f4, by rw [List.append_assoc] at l4; exact l4⟩
      rw [m_sentence_L191, if_neg (by rw [zn_le (by omega) (by omega)]; omega), ← hKd, show (0 : Int32) = zn 0 from rfl, e2, hKd]
      simp only [lt_u]
      rw [bde e3, bde (ms_tellsFrom x3 hd X3.2.2 w2 hin), zn_add, e4]
end
