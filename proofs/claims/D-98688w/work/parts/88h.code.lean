set_option maxRecDepth 100000
section
variable {C : SV} {A : Nat → Int32} {M M1 : PM} {l : List Int64}
abbrev cdq (o j : Nat) : Prop := ca o j ∨ o = 64
theorem cdq_xq (o j : Nat) (q : cdq o j) : xq o j := by
  rcases q with q | q
  · exact Or.inl (ca_ts o j q)
  · exact Or.inl (by unfold ts; omega)
theorem Fq.cdx (f : Fq cdq M M1) : Fq xq M M1 := f.mo cdq_xq
theorem xs_tbIn (h : CX C M) {a : Nat} (ha : a < C.nw) (c1 : Int32) (hp : ∀ a' b', a' < a → a' < b' → b' < C.nw → M.i 64 (10 * a' + b') = edd C a' b' false) (Kc : PM → Option (Int32 × PM)) : ∃ M', x_code_L28 c1 (zn a) Kc FU (zn (a + 1)) M = Kc M' ∧ Fq cdq M M' ∧ ∀ a' b', a' < a + 1 → a' < b' → b' < C.nw → M'.i 64 (10 * a' + b') = edd C a' b' false := by
  have b1 := h.ok.nw10
  refine wlp (fun nn k (_ : Unit) M2 => x_code_L28 c1 (zn a) Kc nn (zn (a + 1 + k)) M2) (C.nw - (a + 1)) FU (FU_lt (by omega)) (fun _ s => s) () (fun k M2 => Fq cdq M M2 ∧ (∀ a' b', a' < a → a' < b' → b' < C.nw → M2.i 64 (10 * a' + b') = edd C a' b' false) ∧ ∀ b', a < b' → b' < a + 1 + k → M2.i 64 (10 * a + b') = edd C a b' false) (fun o => ∃ M', o = Kc M' ∧ Fq cdq M M' ∧ ∀ a' b', a' < a + 1 → a' < b' → b' < C.nw → M'.i 64 (10 * a' + b') = edd C a' b' false) (fun nn k M2 hk hI => ?_) (fun nn M2 hI => ?_) M ⟨Fq.rf, hp, fun b' q1 q2 => absurd q1 (by omega)⟩
  · obtain ⟨f, i1, i2⟩ := hI
    have h2 := h.fx f.cdx
    obtain ⟨M3, e3, f3⟩ := xs_changesOf h2 ha (show a + 1 + k < C.nw by omega) false
    have e3' : x_changesOf (zn a) (zn (a + 1 + k)) 0 M2 = _ := e3
    have ez : zn (a + 1 + k) + 1 = zn (a + 1 + (k + 1)) := zn_addl (a + 1 + k) 1
    refine ⟨M3.si 64 (10 * a + (a + 1 + k)) (edd C a (a + 1 + k) false), ⟨Fq.si (c := cdq) (f.tr (f3.mo (fun o j q => Or.inl q))) (Or.inr rfl), fun a' b' q1 q2 q3 => ?_, fun b' q1 q2 => ?_⟩, ?_⟩
    · rw [si_i, if_neg (by omega), f3.i _ _ (by unfold ca; omega)]; exact i1 a' b' q1 q2 q3
    · rw [si_i]
      by_cases e : b' = a + 1 + k
      · rw [if_pos ⟨rfl, by omega⟩, e]
      · rw [if_neg (by omega), f3.i _ _ (by unfold ca; omega)]; exact i2 b' q1 (by omega)
    · show x_code_L28 c1 (zn a) Kc (nn + 1) (zn (a + 1 + k)) M2 = x_code_L28 c1 (zn a) Kc nn (zn (a + 1 + (k + 1))) _
      rw [x_code_L28, h2.nw, if_neg (by rw [zn_le (by omega) (by omega)]; omega), bde e3', zn_10, ck_zn (by omega) (by omega), ix_zn (by omega), lt_u, lt_u, ez]
  · obtain ⟨f, i1, i2⟩ := hI
    have h2 := h.fx f.cdx
    refine ⟨M2, ?_, f, fun a' b' q1 q2 q3 => ?_⟩
    · show x_code_L28 c1 (zn a) Kc (nn + 1) (zn (a + 1 + (C.nw - (a + 1)))) M2 = _
      rw [x_code_L28, h2.nw, if_pos (by rw [zn_le (by omega) (by omega)]; omega)]
    · rcases Nat.lt_or_eq_of_le (Nat.le_of_lt_succ q1) with q | q
      · exact i1 a' b' q q2 q3
      · subst q; exact i2 b' q2 (by omega)
theorem xs_tb (h : CX C M) (c1 : Int32) (Kc : PM → Option (Int32 × PM)) : ∃ M', x_code_L16 c1 Kc FU 0 M = Kc M' ∧ Fq cdq M M' ∧ TB C M' := by
  have b1 := h.ok.nw10
  refine wlp (fun nn k (_ : Unit) M2 => x_code_L16 c1 Kc nn (zn k) M2) C.nw FU (FU_lt (by omega)) (fun _ s => s) () (fun k M2 => Fq cdq M M2 ∧ ∀ a' b', a' < k → a' < b' → b' < C.nw → M2.i 64 (10 * a' + b') = edd C a' b' false) (fun o => ∃ M', o = Kc M' ∧ Fq cdq M M' ∧ TB C M') (fun nn k M2 hk hI => ?_) (fun nn M2 hI => ?_) M ⟨Fq.rf, fun a' b' q1 _ _ => absurd q1 (by omega)⟩
  · obtain ⟨f, i1⟩ := hI
    have h2 := h.fx f.cdx
    obtain ⟨M3, e3, f3, i3⟩ := xs_tbIn h2 hk c1 i1 (fun (M6 : PM) => lt (zn (k + 1)) fun v7 => x_code_L16 c1 Kc nn v7 M6)
    refine ⟨M3, ⟨f.tr f3, i3⟩, ?_⟩
    show x_code_L16 c1 Kc (nn + 1) (zn k) M2 = x_code_L16 c1 Kc nn (zn (k + 1)) M3
    rw [x_code_L16, h2.nw, if_neg (by rw [zn_le (by omega) (by omega)]; omega), lt_u, zn_addl, e3, lt_u]
  · obtain ⟨f, i1⟩ := hI
    have h2 := h.fx f.cdx
    refine ⟨M2, ?_, f, fun a b q1 q2 => i1 a b (by omega) q1 q2⟩
    show x_code_L16 c1 Kc (nn + 1) (zn C.nw) M2 = _
    rw [x_code_L16, h2.nw, if_pos (Int32.le_refl _)]
theorem xs_cdLoop (h : CX C M) (ht : TB C M) (n : Nat) (Kc : Int32 → PM → Option (Int32 × PM)) : ∃ M', x_code_L70 (zn n) Kc FU 0 1 M = Kc (zn (cdB C (M.i 21 4) n (2 ^ C.nw - 1))) M' ∧ Fq ca M M' := by
  have b1 := h.ok.nw10
  obtain ⟨hr, ehr⟩ : ∃ hr, hr = M.i 21 4 := ⟨_, rfl⟩
  rw [← ehr]
  have hp := p2_le b1
  have hs := sh2 C.nw (by omega)
  generalize 2 ^ C.nw = P at hp hs ⊢
  refine wlp (fun nn k (_ : Unit) M2 => x_code_L70 (zn n) Kc nn (zn (cdB C hr n k)) (zn (k + 1)) M2) (P - 1) FU (FU_lt (by omega)) (fun _ s => s) () (fun _ M2 => Fq ca M M2) (fun o => ∃ M', o = Kc (zn (cdB C hr n (P - 1))) M' ∧ Fq ca M M') (fun nn k M2 hk f => ?_) (fun nn M2 f => ?_) M Fq.rf
  · have h2 := h.fa f
    have t2 := ht.fa f
    show ∃ M', _ ∧ x_code_L70 (zn n) Kc (nn + 1) (zn (cdB C hr n k)) (zn (k + 1)) M2 = x_code_L70 (zn n) Kc nn (zn (cdB C hr n (k + 1))) (zn (k + 1 + 1)) M'
    rw [cdB_s]
    generalize cdB C hr n k = s
    have hun : x_code_L70 (zn n) Kc (nn + 1) (zn s) (zn (k + 1)) M2 = (jn (fun (v13 : Int32) (M11 : PM) => lt (zn (k + 1) + 1) fun v14 => x_code_L70 (zn n) Kc nn v13 v14 M11) fun j1 => if bcn (zn (k + 1)) - bcn (zn s) < 0 then (j1 (zn s) M2) else (bd (x_areApart (zn (k + 1)) (zn n) M2) fun v15 M12 => if v15 = 0 then (j1 (zn s) M12) else (jn (fun (v16 : Int32) (M13 : PM) => j1 v16 M13) fun j2 => if 0 < bcn (zn (k + 1)) - bcn (zn s) then (j2 (zn (k + 1)) M12) else (bd (x_tollOfAll (zn (k + 1)) M12) fun v17 M14 => bd (x_tollOfAll (zn s) M14) fun v18 M15 => if v18 ≤ v17 then (j2 (zn s) M15) else (j2 (zn (k + 1)) M15))))) := by
      rw [x_code_L70, h2.nw, hs, if_neg (by rw [zn_le (by omega) (by omega)]; omega), bde (bc_M _ _), bde (bc_M _ _), lt_u]
    (rw [hun]; (try simp only [jn_u]))
    by_cases c1 : bcn (zn (k + 1)) - bcn (zn s) < 0
    · rw [if_pos c1, if_pos (show bcn (zn (k + 1)) - bcn (zn s) < 0 ∨ apO C (k + 1) n C.nw = false from Or.inl c1)]
      exact ⟨M2, f, by rw [lt_u, zn_addl]⟩
    · rw [if_neg c1, bde (xs_areApart h2 t2 (k + 1) n)]
      cases hq : apO C (k + 1) n C.nw with
      | false =>
        rw [if_pos (by decide), if_pos (Or.inr rfl)]
        exact ⟨M2, f, by rw [lt_u, zn_addl]⟩
      | true =>
        (rw [if_neg (by decide)]; (try simp only [jn_u]); rw [if_neg (show ¬ (bcn (zn (k + 1)) - bcn (zn s) < 0 ∨ (true : Bool) = false) from fun w => w.elim c1 (fun z => Bool.noConfusion z))])
        by_cases c3 : 0 < bcn (zn (k + 1)) - bcn (zn s)
        · rw [if_pos c3, if_pos (show 0 < bcn (zn (k + 1)) - bcn (zn s) ∨ tals C hr (k + 1) C.nw < tals C hr s C.nw from Or.inl c3)]
          exact ⟨M2, f, by rw [lt_u, zn_addl]⟩
        · obtain ⟨M3, e3, f3⟩ := xs_tals h2 (k + 1)
          rw [hr_ca f, ← ehr] at e3
          obtain ⟨M4, e4, f4⟩ := xs_tals (h2.fa f3) s
          rw [hr_ca f3, hr_ca f, ← ehr] at e4
          rw [if_neg c3, bde e3, bde e4]
          by_cases c4 : tals C hr s C.nw ≤ tals C hr (k + 1) C.nw
          · rw [if_pos c4, if_neg (show ¬ (0 < bcn (zn (k + 1)) - bcn (zn s) ∨ tals C hr (k + 1) C.nw < tals C hr s C.nw) from fun w => w.elim c3 (fun z => absurd z (Int32.not_lt.mpr c4)))]
            exact ⟨M4, (f.tr f3).tr f4, by rw [lt_u, zn_addl]⟩
          · rw [if_neg c4, if_pos (show 0 < bcn (zn (k + 1)) - bcn (zn s) ∨ tals C hr (k + 1) C.nw < tals C hr s C.nw from Or.inr (Int32.not_le.mp c4))]
            exact ⟨M4, (f.tr f3).tr f4, by rw [lt_u, zn_addl]⟩
  · have h2 := h.fa f
    refine ⟨M2, ?_, f⟩
    show x_code_L70 (zn n) Kc (nn + 1) _ (zn (P - 1 + 1)) M2 = _
    rw [x_code_L70, h2.nw, hs, if_pos (by rw [zn_le (by omega) (by omega)]; omega)]
theorem i_pos {x : Int32} (h : ¬ x < 0) : (0 < x) ↔ ¬ x = 0 := by
  constructor
  · intro g e
    rw [e] at g
    exact Int32.lt_irrefl g
  · intro g
    rcases Int32.lt_or_lt_of_ne g with w | w
    · exact absurd w h
    · exact w
theorem ms_cdLoop (h : CY 83 C M) (n : Nat) (Kc : Int32 → PM → Option (Int32 × PM)) : ∃ M', m_code_L21 (zn n) Kc FU 0 1 M = Kc (zn (cdB C (M.i 73 12) n (2 ^ C.nw - 1))) M' ∧ Fq ca M M' := by
  have b1 := h.ok.nw10
  obtain ⟨hr, ehr⟩ : ∃ hr, hr = M.i 73 12 := ⟨_, rfl⟩
  rw [← ehr]
  have hp := p2_le b1
  have hs := sh2 C.nw (by omega)
  generalize 2 ^ C.nw = P at hp hs ⊢
  refine wlp (fun nn k (_ : Unit) M2 => m_code_L21 (zn n) Kc nn (zn (cdB C hr n k)) (zn (k + 1)) M2) (P - 1) FU (FU_lt (by omega)) (fun _ s => s) () (fun _ M2 => Fq ca M M2) (fun o => ∃ M', o = Kc (zn (cdB C hr n (P - 1))) M' ∧ Fq ca M M') (fun nn k M2 hk f => ?_) (fun nn M2 f => ?_) M Fq.rf
  · have h2 := h.fa f
    show ∃ M', _ ∧ m_code_L21 (zn n) Kc (nn + 1) (zn (cdB C hr n k)) (zn (k + 1)) M2 = m_code_L21 (zn n) Kc nn (zn (cdB C hr n (k + 1))) (zn (k + 1 + 1)) M'
    rw [cdB_s]
    generalize cdB C hr n k = s
    have hun : m_code_L21 (zn n) Kc (nn + 1) (zn s) (zn (k + 1)) M2 = (jn (fun (v7 : Int32) (M6 : PM) => lt (zn (k + 1) + 1) fun v8 => m_code_L21 (zn n) Kc nn v7 v8 M6) fun j1 => if bcn (zn (k + 1)) - bcn (zn s) < 0 then (j1 (zn s) M2) else (jn (fun (M7 : PM) => bd (m_areApart (zn (k + 1)) (zn n) M7) fun v9 M8 => if v9 = 0 then (j1 (zn s) M8) else (j1 (zn (k + 1)) M8)) fun j2 => if bcn (zn (k + 1)) - bcn (zn s) = 0 then (bd (m_tollsOf (zn (k + 1)) 0 M2) fun v10 M9 => bd (m_tollsOf (zn s) 0 M9) fun v11 M10 => if v11 ≤ v10 then (j1 (zn s) M10) else (j2 M10)) else (j2 M2))) := by
      rw [m_code_L21, h2.nw, hs, if_neg (by rw [zn_le (by omega) (by omega)]; omega), bde (bc_M _ _), bde (bc_M _ _), lt_u]
    (rw [hun]; (try simp only [jn_u]))
    by_cases c1 : bcn (zn (k + 1)) - bcn (zn s) < 0
    · rw [if_pos c1, if_pos (show bcn (zn (k + 1)) - bcn (zn s) < 0 ∨ apO C (k + 1) n C.nw = false from Or.inl c1)]
      exact ⟨M2, f, by rw [lt_u, zn_addl]⟩
    · (rw [if_neg c1]; (try simp only [jn_u]))
      by_cases c3 : bcn (zn (k + 1)) - bcn (zn s) = 0
      · have c3' : ¬ 0 < bcn (zn (k + 1)) - bcn (zn s) := fun w => (i_pos c1).mp w c3
        obtain ⟨M3, e3, f3⟩ := ms_tals h2 (k + 1)
        rw [hy_ca f 12, ← ehr] at e3
        have h3 := h2.fa f3
        obtain ⟨M4, e4, f4⟩ := ms_tals h3 s
        rw [hy_ca f3 12, hy_ca f 12, ← ehr] at e4
        have h4 := h3.fa f4
        rw [if_pos c3, bde e3, bde e4]
        by_cases c4 : tals C hr s C.nw ≤ tals C hr (k + 1) C.nw
        · refine ⟨M4, (f.tr f3).tr f4, ?_⟩
          rw [if_pos c4, lt_u, zn_addl]
          by_cases c5 : apO C (k + 1) n C.nw = false
          · rw [if_pos (Or.inr c5)]
          · rw [if_neg (show ¬ (bcn (zn (k + 1)) - bcn (zn s) < 0 ∨ apO C (k + 1) n C.nw = false) from fun w => w.elim c1 c5), if_neg (show ¬ (0 < bcn (zn (k + 1)) - bcn (zn s) ∨ tals C hr (k + 1) C.nw < tals C hr s C.nw) from fun w => w.elim c3' (fun z => absurd z (Int32.not_lt.mpr c4)))]
        · obtain ⟨M5, e5, f5⟩ := ms_areApart h4 (k + 1) n
          refine ⟨M5, ((f.tr f3).tr f4).tr f5, ?_⟩
          rw [if_neg c4, bde e5]
          cases hq : apO C (k + 1) n C.nw with
          | false => rw [if_pos (by decide), if_pos (Or.inr rfl), lt_u, zn_addl]
          | true => rw [if_neg (by decide), if_neg (show ¬ (bcn (zn (k + 1)) - bcn (zn s) < 0 ∨ (true : Bool) = false) from fun w => w.elim c1 (fun z => Bool.noConfusion z)), if_pos (show 0 < bcn (zn (k + 1)) - bcn (zn s) ∨ tals C hr (k + 1) C.nw < tals C hr s C.nw from Or.inr (Int32.not_le.mp c4)), lt_u, zn_addl]
      · have c3' := (i_pos c1).mpr c3
        obtain ⟨M5, e5, f5⟩ := ms_areApart h2 (k + 1) n
        refine ⟨M5, f.tr f5, ?_⟩
        rw [if_neg c3, bde e5]
        cases hq : apO C (k + 1) n C.nw with
        | false => rw [if_pos (by decide), if_pos (Or.inr rfl), lt_u, zn_addl]
        | true => rw [if_neg (by decide), if_neg (show ¬ (bcn (zn (k + 1)) - bcn (zn s) < 0 ∨ (true : Bool) = false) from fun w => w.elim c1 (fun z => Bool.noConfusion z)), if_pos (show 0 < bcn (zn (k + 1)) - bcn (zn s) ∨ tals C hr (k + 1) C.nw < tals C hr s C.nw from Or.inl c3'), lt_u, zn_addl]
  · have h2 := h.fa f
    refine ⟨M2, ?_, f⟩
    show m_code_L21 (zn n) Kc (nn + 1) _ (zn (P - 1 + 1)) M2 = _
    rw [m_code_L21, h2.nw, hs, if_pos (by rw [zn_le (by omega) (by omega)]; omega)]
theorem xq_code {n : Nat} (hn : n ≤ 6) : QX C A l [(zn (cdB C (A 12) n (2 ^ C.nw - 1))).toInt64] (bcn (zn (cdB C (A 12) n (2 ^ C.nw - 1)))) (x_code (zn n)) := by
  intro M h ha _ hl
  obtain ⟨Kd, hKd⟩ : ∃ Kd : Int32 → PM → Option (Int32 × PM), Kd = (fun (v19 : Int32) (M16 : PM) => lt (M16.si 20 67 0) fun M17 => bd (x_tells (Int32.toInt64 v19) M17) fun _ M18 => bd (jl_bitCount v19 M18) fun v20 M19 => some (v20, M19)) := ⟨_, rfl⟩
  obtain ⟨M1, e1, f1, t1⟩ := xs_tb h (zn n) (fun (M7 : PM) => x_code_L70 (zn n) Kd FU 0 1 M7)
  obtain ⟨M2, e2, f2⟩ := xs_cdLoop (h.fx f1.cdx) t1 n Kd
  rw [hx12 (ha.fx f1.cdx)] at e2
  obtain ⟨M3, e3, f3, l3⟩ := xs_tell0 M2 ((zn (cdB C (A 12) n (2 ^ C.nw - 1))).toInt64)
  refine ⟨M3, ?_, (f1.cdx.tr f2.x).tr f3.wx, l3⟩
  unfold x_code
  rw [bde (xt_6 hn M), if_neg (by decide), ← hKd, e1, e2, hKd]; simp only [lt_u]; rw [bde e3, bde (bc_M _ _)]
theorem yq_code {n : Nat} (hn : n ≤ 6) : QY C A l [(zn (cdB C (A 12) n (2 ^ C.nw - 1))).toInt64] (bcn (zn (cdB C (A 12) n (2 ^ C.nw - 1)))) (m_code (zn n)) := by
  intro M h ha _ hl
  have h' := h.fy (f13 (M := M))
  have ha' := ha.fy (f13 (M := M))
  obtain ⟨Kd, hKd⟩ : ∃ Kd : Int32 → PM → Option (Int32 × PM), Kd = (fun (v12 : Int32) (M11 : PM) => lt (M11.si 72 12 0) fun M12 => bd (m_tell (Int32.toInt64 v12) M12) fun _ M13 => bd (jl_bitCount v12 M13) fun v13 M14 => some (v13, M14)) := ⟨_, rfl⟩
  obtain ⟨M2, e2, f2⟩ := ms_cdLoop h' n Kd
  rw [hy12 ha'] at e2
  obtain ⟨M3, e3, f3, l3⟩ := ms_tell0 M2 ((zn (cdB C (A 12) n (2 ^ C.nw - 1))).toInt64)
  refine ⟨M3, ?_, (f13.tr f2.y).tr f3.wy, l3⟩
  unfold m_code
  rw [lt_u, bde (mt_6 hn _), if_neg (by decide), ← hKd, e2, hKd]; simp only [lt_u]; rw [bde e3, bde (bc_M _ _)]
theorem call_code (p : Int32) : Call (x_code p) (m_code p) := by
  refine Call.of (fun C A l hC hA hl => ?_)
  rcases dl_or (n := 6) (by omega) p with ⟨n, hn, rfl⟩ | hn
  · exact ⟨_, _, one15 _, xq_code hn, yq_code hn⟩
  · refine ⟨-1, l, hl, fun M h ha _ hx => ⟨M, ?_, Fq.rf, hx⟩, fun M h ha _ hx => ⟨M.si 72 13 0, ?_, f13, ly13 hx⟩⟩
    · unfold x_code
      rw [bde (xn_6 hn M), if_pos rfl]
    · unfold m_code
      rw [lt_u, bde (mn_6 hn _), if_pos rfl]
end
