set_option maxRecDepth 100000
def bsP (C : SV) (hr st : Int32) (e : Nat) : Bool := decide (zn (C.wh e) = st) && !decide (chw C hr (zn (C.em e)) st 0 = -1)
def cosB (C : SV) (hr st : Int32) (set k : Nat) : Int32 := itr (fun e s => s + (if hsb set e = true then tol C (ix (chw C hr (zn (C.em e)) st 0)) st hr else 0)) k 0
def wors (C : SV) (set k : Nat) : Int32 := itr (fun e s => s + (if hsb set e = true then zn (C.wo e) else 0)) k 0
theorem wor_b {C : SV} (h : OKC C) (set : Nat) : ∀ k, k ≤ C.ne → ∃ x, x ≤ 99 * k ∧ wors C set k = zn x := by
  intro k
  induction k with
  | zero => intro _; exact ⟨0, by omega, rfl⟩
  | succ k ih =>
    intro hk
    obtain ⟨x, x1, x2⟩ := ih (by omega)
    have hw := h.wo99 k (by omega)
    show ∃ x, x ≤ 99 * (k + 1) ∧ wors C set k + (if hsb set k = true then zn (C.wo k) else 0) = zn x
    rw [x2]
    split
    · exact ⟨x + C.wo k, by omega, by rw [zn_add]⟩
    · exact ⟨x, by omega, Int32.add_zero _⟩
theorem hs0 : ∀ e, e < 8 → hsb 0 e = false := by decide +kernel
theorem wor_0 (C : SV) : ∀ k, k ≤ 8 → wors C 0 k = 0 := by
  intro k
  induction k with
  | zero => intro _; rfl
  | succ k ih =>
    intro hk
    show wors C 0 k + (if hsb 0 k = true then zn (C.wo k) else 0) = 0
    rw [ih (by omega), hs0 k (by omega), if_neg (by decide)]
    rfl
theorem cos_0 (C : SV) (hr st : Int32) : ∀ k, k ≤ 8 → cosB C hr st 0 k = 0 := by
  intro k
  induction k with
  | zero => intro _; rfl
  | succ k ih =>
    intro hk
    show cosB C hr st 0 k + (if hsb 0 k = true then tol C (ix (chw C hr (zn (C.em k)) st 0)) st hr else 0) = 0
    rw [ih (by omega), hs0 k (by omega), if_neg (by decide)]
    rfl
abbrev bsQ (C : SV) (hr st pu : Int32) (c s j : Nat) : Prop := zn (j + 1) &&& (zn c ^^^ (-1)) = 0 ∧ cosB C hr st (j + 1) C.ne ≤ pu ∧ (wors C s C.ne < wors C (j + 1) C.ne ∨ (wors C (j + 1) C.ne = wors C s C.ne ∧ cosB C hr st (j + 1) C.ne < cosB C hr st s C.ne))
def bsB (C : SV) (hr st pu : Int32) (c k : Nat) : Nat := itr (fun j s => if bsQ C hr st pu c s j then j + 1 else s) k 0
theorem bsB_s (C : SV) (hr st pu : Int32) (c k : Nat) : bsB C hr st pu c (k + 1) = if bsQ C hr st pu c (bsB C hr st pu c k) k then k + 1 else bsB C hr st pu c k := rfl
theorem bsB_in (C : SV) (hr st pu : Int32) (c : Nat) : ∀ k, bsB C hr st pu c k ≤ k ∧ zn (bsB C hr st pu c k) &&& (zn c ^^^ (-1)) = 0 := by
  intro k
  induction k with
  | zero => exact ⟨Nat.le_refl _, Int32.zero_and⟩
  | succ k ih =>
    rw [bsB_s]
    split
    · rename_i h
      exact ⟨Nat.le_refl _, h.1⟩
    · exact ⟨by omega, ih.2⟩
section
variable {C : SV} {A : Nat → Int32} {M M1 : PM} {l : List Int64}
theorem xs_bsSome (h : CX C M) (t st : Int32) (o : Nat) (Kc : Int32 → PM → Option (Int32 × PM)) : ∃ M', x_best_L29 t st Kc FU (zn o) 0 M = Kc (zn (xNk (bsP C (M.i 21 4) st) o C.ne)) M' ∧ Fq ca M M' := by
  have b1 := h.ok.ne8
  have b2 := h.ok.nw10
  obtain ⟨hr, ehr⟩ : ∃ hr, hr = M.i 21 4 := ⟨_, rfl⟩
  rw [← ehr]
  refine wlp (fun nn k (_ : Unit) M2 => x_best_L29 t st Kc nn (zn (xNk (bsP C hr st) o k)) (zn k) M2) C.ne FU (FU_lt (by omega)) (fun _ s => s) () (fun _ M2 => Fq ca M M2) (fun r => ∃ M', r = Kc (zn (xNk (bsP C hr st) o C.ne)) M' ∧ Fq ca M M') (fun nn k M2 hk f => ?_) (fun nn M2 f => ?_) M Fq.rf
  · have h2 := h.fa f
    have hw := h2.wh k hk
    have he := h2.em k hk
    show ∃ M', _ ∧ x_best_L29 t st Kc (nn + 1) (zn (xNk (bsP C hr st) o k)) (zn k) M2 = x_best_L29 t st Kc nn (zn (xNk (bsP C hr st) o (k + 1))) (zn (k + 1)) M'
    have hun : x_best_L29 t st Kc (nn + 1) (zn (xNk (bsP C hr st) o k)) (zn k) M2 = (jn (fun (v6 : Int32) (M4 : PM) => lt (zn (xNk (bsP C hr st) o k) &&& v6) fun v7 => lt (zn k + 1) fun v8 => x_best_L29 t st Kc nn v7 v8 M4) fun j1 => jn (fun (M5 : PM) => j1 ((1 <<< (zn k &&& 31)) ^^^ (-1)) M5) fun j2 => if zn (C.wh k) = st then (bd (x_cheapestFor (zn (C.em k)) st 0 M2) fun v9 M6 => if v9 < 0 then (j2 M6) else (j1 (-1) M6)) else (j2 M2)) := by
      rw [x_best_L29, h2.ne, if_neg (by rw [zn_le (by omega) (by omega)]; omega), ck_zn (by omega) (by omega), ix_zn (by omega), hw, he]
      simp (disch := omega) only [ck_zn]
    have e2 : zn (xNk (bsP C hr st) o k) &&& ((1 <<< (zn k &&& 31)) ^^^ (-1)) = zn (xNk (bsP C hr st) o k &&& (2 ^ k ^^^ 4294967295)) := by
      rw [bit_zn k (by omega), m1_zn, zn_xor, zn_and]
    (rw [hun]; (try simp only [jn_u]); rw [xNk_s])
    by_cases c1 : zn (C.wh k) = st
    · obtain ⟨M3, e3, f3⟩ := xs_cheapestFor h2 (zn (C.em k)) st 0
      rw [hr_ca f, ← ehr] at e3
      refine ⟨M3, f.tr f3, ?_⟩
      rw [if_pos c1, bde e3]
      rcases chw_or h.ok hr (zn (C.em k)) st with ⟨q, -⟩ | ⟨b, hb, q, -⟩
      · have hP : bsP C hr st k = false := by unfold bsP; rw [decide_eq_true q]; simp
        rw [q, if_pos (by decide), hP, if_neg (by decide), e2, lt_u, lt_u, zn_addl]
      · have hP : bsP C hr st k = true := by
          unfold bsP
          rw [decide_eq_true c1, decide_eq_false (show ¬ chw C hr (zn (C.em k)) st 0 = -1 by rw [q, zn_eq_m (by omega)]; exact id)]
          rfl
        rw [q, if_neg (Int32.not_lt.mpr (zn_nonneg (by omega))), hP, if_pos rfl, zn_m1, lt_u, lt_u, zn_addl]
    · have hP : bsP C hr st k = false := by unfold bsP; rw [decide_eq_false c1]; rfl
      refine ⟨M2, f, ?_⟩
      rw [if_neg c1, hP, if_neg (by decide), e2, lt_u, lt_u, zn_addl]
  · have h2 := h.fa f
    refine ⟨M2, ?_, f⟩
    show x_best_L29 t st Kc (nn + 1) _ (zn C.ne) M2 = _
    rw [x_best_L29, h2.ne, if_pos (Int32.le_refl _)]
theorem ms_bsSome (h : CY 83 C M) (hb : RvY 73 A M) {t o : Nat} (ht : t < C.nt) (ho : opn C (A 13) (zn t) = zn o) (ho8 : o < 256) (Kc : Int32 → PM → Option (Int32 × PM)) : ∃ M', m_best_L19 (zn t) Kc FU 0 0 M = Kc (zn (mNk (bsP C (A 12) (A t)) o C.ne)) M' ∧ Fq ca M M' := by
  have b1 := h.ok.ne8
  have b2 := h.ok.nw10
  have b4 := h.ok.nt4
  refine wlp (fun nn k (_ : Unit) M2 => m_best_L19 (zn t) Kc nn (zn (mNk (bsP C (A 12) (A t)) o k)) (zn k) M2) C.ne FU (FU_lt (by omega)) (fun _ s => s) () (fun _ M2 => Fq ca M M2) (fun r => ∃ M', r = Kc (zn (mNk (bsP C (A 12) (A t)) o C.ne)) M' ∧ Fq ca M M') (fun nn k M2 hk f => ?_) (fun nn M2 f => ?_) M Fq.rf
  · have h2 := h.fa f
    have hb2 := hb.fa f
    have eo : m_openOf (zn t) M2 = some (zn o, M2) := by rw [ms_openOf h2 (kd73 h2.sh), hy13 hb2, ho]
    have ht2 := hb2 t (by omega)
    have ebit : hsb o k = o.testBit k := hsb_bit o ho8 k (by omega)
    show ∃ M', _ ∧ m_best_L19 (zn t) Kc (nn + 1) (zn (mNk (bsP C (A 12) (A t)) o k)) (zn k) M2 = m_best_L19 (zn t) Kc nn (zn (mNk (bsP C (A 12) (A t)) o (k + 1))) (zn (k + 1)) M'
    have z0 : ∀ x : Int32, x ||| 0 = x := fun x => Int32.or_zero
    rw [mNk_s]
    cases h1 : hsb o k with
    | false =>
      rw [h1] at ebit
      refine ⟨M2, f, ?_⟩
      (rw [m_best_L19, h2.ne, if_neg (by rw [zn_le (by omega) (by omega)]; omega), bde eo, bde (mh_b _ _ _), h1]; (try simp only [jn_u]); rw [if_pos (by decide), z0, lt_u, lt_u, zn_addl, if_neg (fun w => by rw [← ebit] at w; exact Bool.noConfusion w.1)])
    | true =>
      rw [h1] at ebit
      by_cases c1 : zn (C.wh k) = A t
      · obtain ⟨M3, e3, f3⟩ := ms_cheapestOf h2 (zn (C.em k)) (A t)
        rw [hy12 hb2] at e3
        refine ⟨M3, f.tr f3, ?_⟩
        (rw [m_best_L19, h2.ne, if_neg (by rw [zn_le (by omega) (by omega)]; omega), bde eo, bde (mh_b _ _ _), h1]; (try simp only [jn_u]); rw [if_neg (by decide), bde (ms_field2 h2 hk), ck_zn (by omega) (by omega), ix_zn (by omega), ht2, if_pos c1, bde (ms_field1 h2 hk), ck_zn (by omega) (by omega), ht2, bde e3])
        rcases chw_or h.ok (A 12) (zn (C.em k)) (A t) with ⟨q, -⟩ | ⟨b, hb3, q, -⟩
        · have hP : bsP C (A 12) (A t) k = false := by unfold bsP; rw [decide_eq_true q]; simp
          rw [q, if_pos rfl, z0, lt_u, lt_u, zn_addl, if_neg (fun w => by rw [hP] at w; exact Bool.noConfusion w.2)]
        · have hP : bsP C (A 12) (A t) k = true := by
            unfold bsP
            rw [decide_eq_true c1, decide_eq_false (show ¬ chw C (A 12) (zn (C.em k)) (A t) 0 = -1 by rw [q, zn_eq_m (by omega)]; exact id)]
            rfl
          rw [q, if_neg (by rw [zn_eq_m (by omega)]; exact id), if_pos ⟨ebit.symm, hP⟩, bit_zn k (by omega), zn_or, lt_u, lt_u, zn_addl]
      · have hP : bsP C (A 12) (A t) k = false := by unfold bsP; rw [decide_eq_false c1]; rfl
        refine ⟨M2, f, ?_⟩
        (rw [m_best_L19, h2.ne, if_neg (by rw [zn_le (by omega) (by omega)]; omega), bde eo, bde (mh_b _ _ _), h1]; (try simp only [jn_u]); rw [if_neg (by decide), bde (ms_field2 h2 hk), ck_zn (by omega) (by omega), ix_zn (by omega), ht2, if_neg c1, z0, lt_u, lt_u, zn_addl, if_neg (fun w => by rw [hP] at w; exact Bool.noConfusion w.2)])
  · have h2 := h.fa f
    refine ⟨M2, ?_, f⟩
    show m_best_L19 (zn t) Kc (nn + 1) _ (zn C.ne) M2 = _
    rw [m_best_L19, h2.ne, if_pos (Int32.le_refl _)]
theorem xs_costOf (h : CX C M) (st : Int32) {set : Nat} (hs : ∀ e, e < C.ne → hsb set e = true → ∃ b, b < C.nw ∧ chw C (M.i 21 4) (zn (C.em e)) st 0 = zn b) : ∃ M', x_costOf (zn set) st M = some (cosB C (M.i 21 4) st set C.ne, M') ∧ Fq ca M M' := by
  have b1 := h.ok.ne8
  have b2 := h.ok.nw10
  obtain ⟨hr, ehr⟩ : ∃ hr, hr = M.i 21 4 := ⟨_, rfl⟩
  rw [← ehr] at hs ⊢
  unfold x_costOf
  refine wlp (fun nn k (_ : Unit) M2 => x_costOf_L5 (zn set) st nn (cosB C hr st set k) (zn k) M2) C.ne FU (FU_lt (by omega)) (fun _ s => s) () (fun _ M2 => Fq ca M M2) (fun r => ∃ M', r = some (cosB C hr st set C.ne, M') ∧ Fq ca M M') (fun nn k M2 hk f => ?_) (fun nn M2 f => ?_) M Fq.rf
  · have h2 := h.fa f
    show ∃ M', _ ∧ x_costOf_L5 (zn set) st (nn + 1) (cosB C hr st set k) (zn k) M2 = x_costOf_L5 (zn set) st nn (cosB C hr st set k + (if hsb set k = true then tol C (ix (chw C hr (zn (C.em k)) st 0)) st hr else 0)) (zn (k + 1)) M'
    cases h1 : hsb set k with
    | false =>
      refine ⟨M2, f, ?_⟩
      (rw [x_costOf_L5, h2.ne, if_neg (by rw [zn_le (by omega) (by omega)]; omega), bde (xh_b _ _ _), h1]; (try simp only [jn_u]); rw [if_pos (by decide), lt_u, lt_u, zn_addl, if_neg (by decide)])
    | true =>
      obtain ⟨b, hb, q⟩ := hs k hk h1
      obtain ⟨M3, e3, f3⟩ := xs_cheapestFor h2 (zn (C.em k)) st 0
      rw [hr_ca f, ← ehr, q] at e3
      obtain ⟨M4, e4, f4⟩ := xs_tollNow (h2.fa f3) hb st
      rw [hr_ca f3, hr_ca f, ← ehr] at e4
      refine ⟨M4, (f.tr f3).tr f4, ?_⟩
      (rw [x_costOf_L5, h2.ne, if_neg (by rw [zn_le (by omega) (by omega)]; omega), bde (xh_b _ _ _), h1]; (try simp only [jn_u]); rw [if_neg (by decide), ck_zn (by omega) (by omega), ix_zn (by omega), h2.em k hk, bde e3, bde e4, lt_u, lt_u, zn_addl, if_pos (by trivial), q, ix_zn (by omega)])
  · have h2 := h.fa f
    refine ⟨M2, ?_, f⟩
    show x_costOf_L5 (zn set) st (nn + 1) _ (zn C.ne) M2 = _
    rw [x_costOf_L5, h2.ne, if_pos (Int32.le_refl _)]
theorem xs_worthOf (h : CX C M) (set : Nat) : x_worthOf (zn set) M = some (wors C set C.ne, M) := by
  have b1 := h.ok.ne8
  unfold x_worthOf
  refine nlp (fun nn k s => x_worthOf_L4 (zn set) nn s (zn k) M) C.ne FU (FU_lt (by omega)) (fun e s => s + (if hsb set e = true then zn (C.wo e) else 0)) 0 _ (fun nn k hk => ?_) (fun nn => ?_)
  · show x_worthOf_L4 (zn set) (nn + 1) (wors C set k) (zn k) M = x_worthOf_L4 (zn set) nn (wors C set k + (if hsb set k = true then zn (C.wo k) else 0)) (zn (k + 1)) M
    cases h1 : hsb set k with
    | false => (rw [x_worthOf_L4, h.ne, if_neg (by rw [zn_le (by omega) (by omega)]; omega), bde (xh_b _ _ _), h1]; (try simp only [jn_u]); rw [if_pos (by decide), lt_u, lt_u, zn_addl, if_neg (by decide)])
    | true => (rw [x_worthOf_L4, h.ne, if_neg (by rw [zn_le (by omega) (by omega)]; omega), bde (xh_b _ _ _), h1]; (try simp only [jn_u]); rw [if_neg (by decide), ck_zn (by omega) (by omega), ix_zn (by omega), h.wo k hk, lt_u, lt_u, zn_addl, if_pos (by trivial)])
  · show x_worthOf_L4 (zn set) (nn + 1) (wors C set C.ne) (zn C.ne) M = _
    rw [x_worthOf_L4, h.ne, if_pos (Int32.le_refl _)]
theorem ms_bsSum (h : CY 83 C M) (hb : RvY 73 A M) {t set : Nat} (ht : t < C.nt) (hs : ∀ e, e < C.ne → hsb set e = true → ∃ b, b < C.nw ∧ chw C (A 12) (zn (C.em e)) (A t) 0 = zn b) (c2 c3 c4 c5 : Int32) (Kc : Int32 → Int32 → PM → Option (Int32 × PM)) : ∃ M', m_best_L128 (zn t) c2 c3 c4 c5 (zn set) Kc FU 0 0 0 M = Kc (wors C set C.ne) (cosB C (A 12) (A t) set C.ne) M' ∧ Fq ca M M' := by
  have b1 := h.ok.ne8
  have b2 := h.ok.nw10
  have b4 := h.ok.nt4
  refine wlp (fun nn k (_ : Unit) M2 => m_best_L128 (zn t) c2 c3 c4 c5 (zn set) Kc nn (wors C set k) (cosB C (A 12) (A t) set k) (zn k) M2) C.ne FU (FU_lt (by omega)) (fun _ s => s) () (fun _ M2 => Fq ca M M2) (fun r => ∃ M', r = Kc (wors C set C.ne) (cosB C (A 12) (A t) set C.ne) M' ∧ Fq ca M M') (fun nn k M2 hk f => ?_) (fun nn M2 f => ?_) M Fq.rf
  · have h2 := h.fa f
    have hb2 := hb.fa f
    show ∃ M', _ ∧ m_best_L128 (zn t) c2 c3 c4 c5 (zn set) Kc (nn + 1) (wors C set k) (cosB C (A 12) (A t) set k) (zn k) M2 = m_best_L128 (zn t) c2 c3 c4 c5 (zn set) Kc nn (wors C set k + (if hsb set k = true then zn (C.wo k) else 0)) (cosB C (A 12) (A t) set k + (if hsb set k = true then tol C (ix (chw C (A 12) (zn (C.em k)) (A t) 0)) (A t) (A 12) else 0)) (zn (k + 1)) M'
    cases h1 : hsb set k with
    | false =>
      refine ⟨M2, f, ?_⟩
      (rw [m_best_L128, h2.ne, if_neg (by rw [zn_le (by omega) (by omega)]; omega), bde (mh_b _ _ _), h1]; (try simp only [jn_u]); rw [if_pos (by decide), lt_u, zn_addl, if_neg (by decide), if_neg (by decide), Int32.add_zero, Int32.add_zero])
    | true =>
      obtain ⟨b, hbw, q⟩ := hs k hk h1
      obtain ⟨M3, e3, f3⟩ := ms_cheapestOf h2 (zn (C.em k)) (A t)
      rw [hy12 hb2, q] at e3
      have hb3 := hb2.fa f3
      obtain ⟨M4, e4, f4⟩ := ms_tollNow (h2.fa f3) hbw (A t)
      rw [hy12 hb3] at e4
      refine ⟨M4, (f.tr f3).tr f4, ?_⟩
      (rw [m_best_L128, h2.ne, if_neg (by rw [zn_le (by omega) (by omega)]; omega), bde (mh_b _ _ _), h1]; (try simp only [jn_u]); rw [if_neg (by decide), bde (ms_field3 h2 hk), lt_u, bde (ms_field1 h2 hk), ck_zn (by omega) (by omega), ix_zn (by omega), hb2 t (by omega), bde e3, ck_zn (by omega) (by omega), hb3 t (by omega), bde e4, lt_u, lt_u, zn_addl, if_pos (by trivial), if_pos (by trivial), q, ix_zn (by omega)])
  · have h2 := h.fa f
    refine ⟨M2, ?_, f⟩
    show m_best_L128 (zn t) c2 c3 c4 c5 (zn set) Kc (nn + 1) _ _ (zn C.ne) M2 = _
    rw [m_best_L128, h2.ne, if_pos (Int32.le_refl _)]
end
