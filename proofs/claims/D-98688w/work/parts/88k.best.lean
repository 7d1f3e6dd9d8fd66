set_option maxRecDepth 100000
section
variable {C : SV} {A : Nat → Int32} {M M1 : PM} {l : List Int64}
/-- the errands of a set within the ones that can be done -/
theorem bs_hs (h : OKC C) {hr st : Int32} {o s : Nat} (ho : o < 256) (hs8 : s < 256) (hs : zn s &&& (zn (mNk (bsP C hr st) o C.ne) ^^^ (-1)) = 0) : ∀ e, e < C.ne → hsb s e = true → ∃ b, b < C.nw ∧ chw C hr (zn (C.em e)) st 0 = zn b := by
  intro e he hb
  have b1 := h.ne8
  have hc : mNk (bsP C hr st) o C.ne < 256 := Nat.lt_of_lt_of_le (mNk_lt _ _ _) (p2_8 b1)
  have h2 := sub_bits hs8 hc hs (show e < 8 by omega) hb
  rw [hsb_bit _ hc e (by omega), mNk_b] at h2
  have hP : bsP C hr st e = true := by
    revert h2
    cases bsP C hr st e <;> simp
  unfold bsP at hP
  rcases chw_or h hr (zn (C.em e)) st with ⟨q, -⟩ | ⟨b, hb, q, -⟩
  · rw [decide_eq_true q] at hP
    simp at hP
  · exact ⟨b, hb, q⟩
theorem xs_bsLoop (h : CX C M) (ha : RvX 21 A M) {t o : Nat} (ht : t < C.nt) (ho : o < 256) (Kc : Int32 → PM → Option (Int32 × PM)) :
    ∃ M', x_best_L90 (zn t) (A t) (zn (mNk (bsP C (A 12) (A t)) o C.ne)) Kc FU 0 1 M = Kc (zn (bsB C (A 12) (A t) (A (4 + t)) (mNk (bsP C (A 12) (A t)) o C.ne) (mNk (bsP C (A 12) (A t)) o C.ne))) M' ∧ Fq ca M M' := by
  have b1 := h.ok.ne8
  have b4 := h.ok.nt4
  have hsP := fun s (h8 : s < 256) (hs : zn s &&& (zn (mNk (bsP C (A 12) (A t)) o C.ne) ^^^ (-1)) = 0) => bs_hs h.ok (hr := A 12) (st := A t) ho h8 hs
  have hc : mNk (bsP C (A 12) (A t)) o C.ne < 256 := Nat.lt_of_lt_of_le (mNk_lt _ _ _) (p2_8 b1)
  generalize mNk (bsP C (A 12) (A t)) o C.ne = c at hsP hc ⊢
  refine wlp (fun nn k (_ : Unit) M2 => x_best_L90 (zn t) (A t) (zn c) Kc nn (zn (bsB C (A 12) (A t) (A (4 + t)) c k)) (zn (k + 1)) M2) c FU (FU_lt (by omega)) (fun _ s => s) () (fun _ M2 => Fq ca M M2) (fun r => ∃ M', r = Kc (zn (bsB C (A 12) (A t) (A (4 + t)) c c)) M' ∧ Fq ca M M') (fun nn k M2 hk f => ?_) (fun nn M2 f => ?_) M Fq.rf
  · have h2 := h.fa f
    have ha2 := ha.fa f
    obtain ⟨in1, in2⟩ := bsB_in C (A 12) (A t) (A (4 + t)) c k
    show ∃ M', _ ∧ x_best_L90 (zn t) (A t) (zn c) Kc (nn + 1) (zn (bsB C (A 12) (A t) (A (4 + t)) c k)) (zn (k + 1)) M2 = x_best_L90 (zn t) (A t) (zn c) Kc nn (zn (bsB C (A 12) (A t) (A (4 + t)) c (k + 1))) (zn (k + 1 + 1)) M'
    rw [bsB_s]
    revert in1 in2
    generalize bsB C (A 12) (A t) (A (4 + t)) c k = s
    intro in1 in2
    have hun : x_best_L90 (zn t) (A t) (zn c) Kc (nn + 1) (zn s) (zn (k + 1)) M2 = (jn (fun (v13 : Int32) (M9 : PM) => lt (zn (k + 1) + 1) fun v14 => x_best_L90 (zn t) (A t) (zn c) Kc nn v13 v14 M9) fun j3 => if (zn (k + 1) &&& (zn c ^^^ (-1))) = 0 then (bd (x_costOf (zn (k + 1)) (A t) M2) fun v15 M10 => ck (zn t) 4 <| if v15 ≤ (M10.i 23 (ix (zn t))) then (bd (x_worthOf (zn (k + 1)) M10) fun v16 M11 => bd (x_worthOf (zn s) M11) fun v17 M12 => lt (v16 - v17) fun v18 => jn (fun (v19 : Int32) (M13 : PM) => j3 v19 M13) fun j4 => if 0 < v18 then (j4 (zn (k + 1)) M12) else (if v18 = 0 then (bd (x_costOf (zn (k + 1)) (A t) M12) fun v20 M14 => bd (x_costOf (zn s) (A t) M14) fun v21 M15 => if v21 ≤ v20 then (j4 (zn s) M15) else (j4 (zn (k + 1)) M15)) else (j4 (zn s) M12))) else (j3 (zn s) M10)) else (j3 (zn s) M2)) := by
      rw [x_best_L90, if_neg (by rw [zn_lt (by omega) (by omega)]; omega)]
    (rw [hun]; (try simp only [jn_u]))
    by_cases c1 : (zn (k + 1) &&& (zn c ^^^ (-1))) = 0
    · obtain ⟨M3, e3, f3⟩ := xs_costOf (set := k + 1) h2 (A t) (by rw [hx12 ha2]; exact hsP (k + 1) (by omega) c1)
      rw [hx12 ha2] at e3
      have h3 := h2.fa f3
      have ha3 := ha2.fa f3
      have ep : M3.i 23 t = A (4 + t) := (ha3.1 t (by omega)).2.1
      rw [if_pos c1, bde e3, ck_zn (by omega) (by omega), ix_zn (by omega), ep]
      by_cases c2 : cosB C (A 12) (A t) (k + 1) C.ne ≤ A (4 + t)
      · obtain ⟨x, x1, x2⟩ := wor_b h.ok (k + 1) C.ne (Nat.le_refl _)
        obtain ⟨y, y1, y2⟩ := wor_b h.ok s C.ne (Nat.le_refl _)
        (rw [if_pos c2, bde (xs_worthOf h3 _), bde (xs_worthOf h3 _), lt_u]; (try simp only [jn_u]))
        by_cases c3 : y < x
        · rw [if_pos (by rw [x2, y2, zs_pos (by omega) (by omega)]; exact c3), if_pos ⟨c1, c2, Or.inl (by rw [x2, y2, zn_lt (by omega) (by omega)]; exact c3)⟩]
          exact ⟨M3, f.tr f3, by rw [lt_u, zn_addl]⟩
        · have n3 : ¬ wors C s C.ne < wors C (k + 1) C.ne := by rw [x2, y2, zn_lt (by omega) (by omega)]; exact c3
          rw [if_neg (by rw [x2, y2, zs_pos (by omega) (by omega)]; exact c3)]
          by_cases c4 : x = y
          · obtain ⟨M4, e4, f4⟩ := xs_costOf (set := k + 1) h3 (A t) (by rw [hx12 ha3]; exact hsP (k + 1) (by omega) c1)
            rw [hx12 ha3] at e4
            have h4 := h3.fa f4
            have ha4 := ha3.fa f4
            obtain ⟨M5, e5, f5⟩ := xs_costOf (set := s) h4 (A t) (by rw [hx12 ha4]; exact hsP s (by omega) in2)
            rw [hx12 ha4] at e5
            rw [if_pos (by rw [x2, y2, zs_zero (by omega) (by omega)]; exact c4), bde e4, bde e5]
            by_cases c5 : cosB C (A 12) (A t) s C.ne ≤ cosB C (A 12) (A t) (k + 1) C.ne
            · rw [if_pos c5, if_neg (fun w => w.2.2.elim n3 (fun z => absurd z.2 (Int32.not_lt.mpr c5)))]
              exact ⟨M5, ((f.tr f3).tr f4).tr f5, by rw [lt_u, zn_addl]⟩
            · rw [if_neg c5, if_pos ⟨c1, c2, Or.inr ⟨by rw [x2, y2, c4], Int32.not_le.mp c5⟩⟩]
              exact ⟨M5, ((f.tr f3).tr f4).tr f5, by rw [lt_u, zn_addl]⟩
          · rw [if_neg (by rw [x2, y2, zs_zero (by omega) (by omega)]; exact c4), if_neg (fun w => w.2.2.elim n3 (fun z => by
              have z1 := z.1
              rw [x2, y2] at z1
              exact c4 (zn_inj (by omega) (by omega) z1)))]
            exact ⟨M3, f.tr f3, by rw [lt_u, zn_addl]⟩
      · rw [if_neg c2, if_neg (fun w => c2 w.2.1)]
        exact ⟨M3, f.tr f3, by rw [lt_u, zn_addl]⟩
    · rw [if_neg c1, if_neg (fun w => c1 w.1)]
      exact ⟨M2, f, by rw [lt_u, zn_addl]⟩
  · refine ⟨M2, ?_, f⟩
    show x_best_L90 (zn t) (A t) (zn c) Kc (nn + 1) _ (zn (c + 1)) M2 = _
    rw [x_best_L90, if_pos (by rw [zn_lt (by omega) (by omega)]; omega)]
theorem ms_bsLoop (h : CY 83 C M) (ha : RvY 73 A M) {t o : Nat} (ht : t < C.nt) (ho : o < 256) (Kc : Int32 → Int32 → Int32 → PM → Option (Int32 × PM)) :
    ∃ M', m_best_L101 (zn t) (zn (mNk (bsP C (A 12) (A t)) o C.ne)) Kc FU 0 0 0 1 M = Kc (zn (bsB C (A 12) (A t) (A (4 + t)) (mNk (bsP C (A 12) (A t)) o C.ne) (mNk (bsP C (A 12) (A t)) o C.ne))) (wors C (bsB C (A 12) (A t) (A (4 + t)) (mNk (bsP C (A 12) (A t)) o C.ne) (mNk (bsP C (A 12) (A t)) o C.ne)) C.ne) (cosB C (A 12) (A t) (bsB C (A 12) (A t) (A (4 + t)) (mNk (bsP C (A 12) (A t)) o C.ne) (mNk (bsP C (A 12) (A t)) o C.ne)) C.ne) M' ∧ Fq ca M M' := by
  have b1 := h.ok.ne8
  have b4 := h.ok.nt4
  have hsP := fun s (h8 : s < 256) (hs : zn s &&& (zn (mNk (bsP C (A 12) (A t)) o C.ne) ^^^ (-1)) = 0) => bs_hs h.ok (hr := A 12) (st := A t) ho h8 hs
  have hc : mNk (bsP C (A 12) (A t)) o C.ne < 256 := Nat.lt_of_lt_of_le (mNk_lt _ _ _) (p2_8 b1)
  generalize mNk (bsP C (A 12) (A t)) o C.ne = c at hsP hc ⊢
  have h00 : m_best_L101 (zn t) (zn c) Kc FU 0 0 0 1 M = m_best_L101 (zn t) (zn c) Kc FU (zn (bsB C (A 12) (A t) (A (4 + t)) c 0)) (wors C (bsB C (A 12) (A t) (A (4 + t)) c 0) C.ne) (cosB C (A 12) (A t) (bsB C (A 12) (A t) (A (4 + t)) c 0) C.ne) (zn (0 + 1)) M := by
    show _ = m_best_L101 (zn t) (zn c) Kc FU (zn 0) (wors C 0 C.ne) (cosB C (A 12) (A t) 0 C.ne) (zn 1) M
    rw [wor_0 C _ b1, cos_0 C _ _ _ b1]
    rfl
  rw [h00]
  refine wlp (fun nn k (_ : Unit) M2 => m_best_L101 (zn t) (zn c) Kc nn (zn (bsB C (A 12) (A t) (A (4 + t)) c k)) (wors C (bsB C (A 12) (A t) (A (4 + t)) c k) C.ne) (cosB C (A 12) (A t) (bsB C (A 12) (A t) (A (4 + t)) c k) C.ne) (zn (k + 1)) M2) c FU (FU_lt (by omega)) (fun _ s => s) () (fun _ M2 => Fq ca M M2) (fun r => ∃ M', r = Kc (zn (bsB C (A 12) (A t) (A (4 + t)) c c)) (wors C (bsB C (A 12) (A t) (A (4 + t)) c c) C.ne) (cosB C (A 12) (A t) (bsB C (A 12) (A t) (A (4 + t)) c c) C.ne) M' ∧ Fq ca M M') (fun nn k M2 hk f => ?_) (fun nn M2 f => ?_) M Fq.rf
  · have h2 := h.fa f
    have ha2 := ha.fa f
    show ∃ M', _ ∧ m_best_L101 (zn t) (zn c) Kc (nn + 1) (zn (bsB C (A 12) (A t) (A (4 + t)) c k)) (wors C (bsB C (A 12) (A t) (A (4 + t)) c k) C.ne) (cosB C (A 12) (A t) (bsB C (A 12) (A t) (A (4 + t)) c k) C.ne) (zn (k + 1)) M2 = m_best_L101 (zn t) (zn c) Kc nn (zn (bsB C (A 12) (A t) (A (4 + t)) c (k + 1))) (wors C (bsB C (A 12) (A t) (A (4 + t)) c (k + 1)) C.ne) (cosB C (A 12) (A t) (bsB C (A 12) (A t) (A (4 + t)) c (k + 1)) C.ne) (zn (k + 1 + 1)) M'
    rw [bsB_s]
    generalize bsB C (A 12) (A t) (A (4 + t)) c k = s
    obtain ⟨J, hJ⟩ : ∃ J : Int32 → Int32 → Int32 → PM → Option (Int32 × PM), J = (fun (v17 : Int32) (v18 : Int32) (v19 : Int32) (M12 : PM) => lt (zn (k + 1) + 1) fun v20 => m_best_L101 (zn t) (zn c) Kc nn v17 v18 v19 v20 M12) := ⟨_, rfl⟩
    have hun : m_best_L101 (zn t) (zn c) Kc (nn + 1) (zn s) (wors C s C.ne) (cosB C (A 12) (A t) s C.ne) (zn (k + 1)) M2 = (if (zn (k + 1) &&& (zn c ^^^ (-1))) = 0 then (m_best_L128 (zn t) (zn c) (zn s) (wors C s C.ne) (cosB C (A 12) (A t) s C.ne) (zn (k + 1)) (fun (v34 : Int32) (v35 : Int32) (M20 : PM) => ck (4 + zn t) 44 <| if (M20.i 73 (ix (4 + zn t))) < v35 then (J (zn s) (wors C s C.ne) (cosB C (A 12) (A t) s C.ne) M20) else (if v34 < wors C s C.ne then (J (zn s) (wors C s C.ne) (cosB C (A 12) (A t) s C.ne) M20) else (jn (fun (M21 : PM) => J (zn (k + 1)) v34 v35 M21) fun j4 => if v34 = wors C s C.ne then (if v35 < cosB C (A 12) (A t) s C.ne then (j4 M20) else (J (zn s) (wors C s C.ne) (cosB C (A 12) (A t) s C.ne) M20)) else (j4 M20)))) FU 0 0 0 M2) else (J (zn s) (wors C s C.ne) (cosB C (A 12) (A t) s C.ne) M2)) := by
      (rw [m_best_L101, if_neg (by rw [zn_lt (by omega) (by omega)]; omega)]; (try simp only [jn_u]); rw [hJ])
    have fin : ∀ s' M3, Fq ca M M3 → m_best_L101 (zn t) (zn c) Kc (nn + 1) (zn s) (wors C s C.ne) (cosB C (A 12) (A t) s C.ne) (zn (k + 1)) M2 = J (zn s') (wors C s' C.ne) (cosB C (A 12) (A t) s' C.ne) M3 → ∃ M', Fq ca M M' ∧ m_best_L101 (zn t) (zn c) Kc (nn + 1) (zn s) (wors C s C.ne) (cosB C (A 12) (A t) s C.ne) (zn (k + 1)) M2 = m_best_L101 (zn t) (zn c) Kc nn (zn s') (wors C s' C.ne) (cosB C (A 12) (A t) s' C.ne) (zn (k + 1 + 1)) M' := fun s' M3 f3 e => ⟨M3, f3, by rw [e, hJ]; simp only [lt_u, zn_addl]⟩
    by_cases c1 : (zn (k + 1) &&& (zn c ^^^ (-1))) = 0
    · rw [if_pos c1] at hun
      obtain ⟨M3, e3, f3⟩ := ms_bsSum (set := k + 1) h2 ha2 ht (hsP (k + 1) (by omega) c1) (zn c) (zn s) (wors C s C.ne) (cosB C (A 12) (A t) s C.ne) (fun (v34 : Int32) (v35 : Int32) (M20 : PM) => ck (4 + zn t) 44 <| if (M20.i 73 (ix (4 + zn t))) < v35 then (J (zn s) (wors C s C.ne) (cosB C (A 12) (A t) s C.ne) M20) else (if v34 < wors C s C.ne then (J (zn s) (wors C s C.ne) (cosB C (A 12) (A t) s C.ne) M20) else (jn (fun (M21 : PM) => J (zn (k + 1)) v34 v35 M21) fun j4 => if v34 = wors C s C.ne then (if v35 < cosB C (A 12) (A t) s C.ne then (j4 M20) else (J (zn s) (wors C s C.ne) (cosB C (A 12) (A t) s C.ne) M20)) else (j4 M20))))
      have ha3 := ha2.fa f3
      have ep : M3.i 73 (4 + t) = A (4 + t) := ha3 (4 + t) (by omega)
      rw [e3, zn_4l, ck_zn (by omega) (by omega), ix_zn (by omega), ep] at hun
      have f33 := f.tr f3
      by_cases c2 : A (4 + t) < cosB C (A 12) (A t) (k + 1) C.ne
      · rw [if_pos c2] at hun
        rw [if_neg (fun w => absurd w.2.1 (Int32.not_le.mpr c2))]
        exact fin s M3 f33 hun
      · have c2' := Int32.not_lt.mp c2
        rw [if_neg c2] at hun
        by_cases c3 : wors C (k + 1) C.ne < wors C s C.ne
        · rw [if_pos c3] at hun
          rw [if_neg (fun w => w.2.2.elim (fun z => Int32.lt_irrefl (Int32.lt_trans z c3)) (fun z => by rw [z.1] at c3; exact Int32.lt_irrefl c3))]
          exact fin s M3 f33 hun
        · (rw [if_neg c3] at hun; (try simp only [jn_u] at hun))
          by_cases c4 : wors C (k + 1) C.ne = wors C s C.ne
          · rw [if_pos c4] at hun
            by_cases c5 : cosB C (A 12) (A t) (k + 1) C.ne < cosB C (A 12) (A t) s C.ne
            · rw [if_pos c5] at hun
              rw [if_pos ⟨c1, c2', Or.inr ⟨c4, c5⟩⟩]
              exact fin (k + 1) M3 f33 hun
            · rw [if_neg c5] at hun
              rw [if_neg (fun w => w.2.2.elim (fun z => by rw [c4] at z; exact Int32.lt_irrefl z) (fun z => c5 z.2))]
              exact fin s M3 f33 hun
          · rw [if_neg c4] at hun
            have c6 : wors C s C.ne < wors C (k + 1) C.ne := by
              rcases Int32.lt_or_lt_of_ne c4 with w | w
              · exact absurd w c3
              · exact w
            rw [if_pos ⟨c1, c2', Or.inl c6⟩]
            exact fin (k + 1) M3 f33 hun
    · rw [if_neg c1] at hun
      rw [if_neg (fun w => c1 w.1)]
      exact fin s M2 f hun
  · refine ⟨M2, ?_, f⟩
    show m_best_L101 (zn t) (zn c) Kc (nn + 1) _ _ _ (zn (c + 1)) M2 = _
    rw [m_best_L101, if_pos (by rw [zn_lt (by omega) (by omega)]; omega)]
def bsF (C : SV) (A : Nat → Int32) (t o : Nat) : Nat := bsB C (A 12) (A t) (A (4 + t)) (mNk (bsP C (A 12) (A t)) o C.ne) (mNk (bsP C (A 12) (A t)) o C.ne)
theorem xq_best {t o : Nat} (ht : t < C.nt) (ho : o < 2 ^ C.ne) (heo : opn C (A 13) (zn t) = zn o) : QX C A l [(zn (bsF C A t o)).toInt64, (cosB C (A 12) (A t) (bsF C A t o) C.ne).toInt64] (wors C (bsF C A t o) C.ne) (x_best (zn t)) := by
  intro M h ha _ hl
  have b1 := h.ok.ne8
  have b4 := h.ok.nt4
  have o8 : o < 256 := Nat.lt_of_lt_of_le ho (p2_8 b1)
  have hc : mNk (bsP C (A 12) (A t)) o C.ne < 256 := Nat.lt_of_lt_of_le (mNk_lt _ _ _) (p2_8 b1)
  obtain ⟨Kd, hKd⟩ : ∃ Kd : Int32 → PM → Option (Int32 × PM), Kd = (fun (v22 : Int32) (M16 : PM) => lt (M16.si 20 67 0) fun M17 => bd (x_tells (Int32.toInt64 v22) M17) fun _ M18 => bd (x_costOf v22 (A t) M18) fun v23 M19 => bd (x_tells (Int32.toInt64 v23) M19) fun _ M20 => bd (x_worthOf v22 M20) fun v24 M21 => some (v24, M21)) := ⟨_, rfl⟩
  obtain ⟨M1, e1, f1⟩ := xs_bsSome h (zn t) (A t) o (fun (v10 : Int32) (M7 : PM) => x_best_L90 (zn t) (A t) v10 Kd FU 0 1 M7)
  rw [hx12 ha, xm_Nk _ b1 ho] at e1
  have h1 := h.fa f1
  have ha1 := ha.fa f1
  obtain ⟨M2, e2, f2⟩ := xs_bsLoop h1 ha1 ht o8 Kd
  have ebs : bsB C (A 12) (A t) (A (4 + t)) (mNk (bsP C (A 12) (A t)) o C.ne) (mNk (bsP C (A 12) (A t)) o C.ne) = bsF C A t o := rfl
  rw [ebs] at e2
  obtain ⟨M3, e3, f3, l3⟩ := xs_tell0 M2 ((zn (bsF C A t o)).toInt64)
  have h3 := (h1.fa f2).fx f3.wx
  have ha3 := (ha1.fa f2).fx f3.wx
  have hin := bsB_in C (A 12) (A t) (A (4 + t)) (mNk (bsP C (A 12) (A t)) o C.ne) (mNk (bsP C (A 12) (A t)) o C.ne)
  obtain ⟨M4, e4, f4⟩ := xs_costOf (set := bsF C A t o) h3 (A t) (by rw [hx12 ha3]; exact bs_hs h.ok o8 (Nat.lt_of_le_of_lt hin.1 hc) hin.2)
  rw [hx12 ha3] at e4
  obtain ⟨M5, e5, f5, l5⟩ := xs_tell1 (l3.fa f4) ((cosB C (A 12) (A t) (bsF C A t o) C.ne).toInt64)
  have h5 := (h3.fa f4).fx f5.wx
  refine ⟨M5, ?_, (((f1.x.tr f2.x).tr f3.wx).tr f4.x).tr f5.wx, l5⟩
  unfold x_best
  rw [bde (xt_trav h ht), if_neg (by decide), ck_zn (by omega) (by omega), ix_zn (by omega), show M.i 22 t = A t from (ha.1 t (by omega)).1, lt_u, bde (show x_errandsOf (zn t) M = some (zn o, M) by rw [xs_errandsOf h, hx13 ha, heo]), ← hKd, e1, e2, hKd]; simp only [lt_u]; rw [bde e3, bde e4, bde e5, bde (xs_worthOf h5 _)]
theorem yq_best {t o : Nat} (ht : t < C.nt) (ho : o < 2 ^ C.ne) (heo : opn C (A 13) (zn t) = zn o) : QY C A l [(zn (bsF C A t o)).toInt64, (cosB C (A 12) (A t) (bsF C A t o) C.ne).toInt64] (wors C (bsF C A t o) C.ne) (m_best (zn t)) := by
  intro M h ha _ hl
  have b1 := h.ok.ne8
  have b4 := h.ok.nt4
  have o8 : o < 256 := Nat.lt_of_lt_of_le ho (p2_8 b1)
  have h' := h.fy (f13 (M := M))
  have ha' := ha.fy (f13 (M := M))
  obtain ⟨Kd, hKd⟩ : ∃ Kd : Int32 → Int32 → Int32 → PM → Option (Int32 × PM), Kd = (fun (v36 : Int32) (v37 : Int32) (v38 : Int32) (M22 : PM) => lt (M22.si 72 12 0) fun M23 => bd (m_tell (Int32.toInt64 v36) M23) fun _ M24 => bd (m_tell (Int32.toInt64 v38) M24) fun _ M25 => some (v37, M25)) := ⟨_, rfl⟩
  obtain ⟨M1, e1, f1⟩ := ms_bsSome h' ha' ht heo o8 (fun (v12 : Int32) (M10 : PM) => m_best_L101 (zn t) v12 Kd FU 0 0 0 1 M10)
  have h1 := h'.fa f1
  have ha1 := ha'.fa f1
  obtain ⟨M2, e2, f2⟩ := ms_bsLoop h1 ha1 ht o8 Kd
  have ebs : bsB C (A 12) (A t) (A (4 + t)) (mNk (bsP C (A 12) (A t)) o C.ne) (mNk (bsP C (A 12) (A t)) o C.ne) = bsF C A t o := rfl
  rw [ebs] at e2
  obtain ⟨M3, e3, f3, l3⟩ := ms_tell0 M2 ((zn (bsF C A t o)).toInt64)
  obtain ⟨M5, e5, f5, l5⟩ := ms_tell1 l3 ((cosB C (A 12) (A t) (bsF C A t o) C.ne).toInt64)
  refine ⟨M5, ?_, (((f13.tr f1.y).tr f2.y).tr f3.wy).tr f5.wy, l5⟩
  unfold m_best
  rw [lt_u, bde (mt_one h' ht), if_neg (by decide), ← hKd, e1, e2, hKd]; simp only [lt_u]
  show bd (m_tell ((zn (bsF C A t o)).toInt64) _) _ = _
  rw [bde e3]
  show bd (m_tell ((cosB C (A 12) (A t) (bsF C A t o) C.ne).toInt64) _) _ = _
  rw [bde e5]
theorem call_best (p : Int32) : Call (x_best p) (m_best p) := by
  refine Call.of (fun C A l hC hA hl => ?_)
  have b4 := hC.nt4
  rcases dm_or (show C.nt < 2147483648 by omega) p with ⟨t, ht, rfl⟩ | hn
  · obtain ⟨o, ho, heo⟩ := opn_lt hC (A 13) (zn t)
    exact ⟨_, _, two15 _ _, xq_best ht ho heo, yq_best ht ho heo⟩
  · refine ⟨-1, l, hl, fun M h ha _ hx => ⟨M, ?_, Fq.rf, hx⟩, fun M h ha _ hx => ⟨M.si 72 13 0, ?_, f13, ly13 hx⟩⟩
    · unfold x_best
      rw [bde (xn_trav h hn), if_pos rfl]
    · unfold m_best
      rw [lt_u, bde (mn_one (h.fy f13) hn), if_pos rfl]
end
