set_option maxRecDepth 100000
/-! QUERIES: when, takes, greed -/
section
variable {C : SV} {A : Nat → Int32} {M M1 : PM} {l : List Int64}
def bst (C : SV) (w : Nat) (st hr : Int32) (n : Nat) : Int32 := itr (fun k s => if tol C w st (hr + s) ≤ tol C w st (hr + zn (k + 1)) then s else zn (k + 1)) n 0
theorem xq_when {w s : Nat} (hw : w < C.nw) (hs : s < C.ns) : QX C A l [(tol C w (zn s) (A 12 + bst C w (zn s) (A 12) 23)).toInt64, (tol C w (zn s) (A 12)).toInt64] (bst C w (zn s) (A 12) 23) (x_when (zn w) (zn s)) := by
  intro M h ha _ hl
  have hun : x_when (zn w) (zn s) M = x_when_L23 (zn w) (zn s) (fun (v9 : Int32) (M6 : PM) => lt (M6.si 20 67 0) fun M7 => bd (x_tollOf (zn w) (zn s) ((M7.i 21 4) + v9) M7) fun v10 M8 => bd (x_tells (Int32.toInt64 v10) M8) fun _ M9 => bd (x_tollNow (zn w) (zn s) M9) fun v11 M10 => bd (x_tells (Int32.toInt64 v11) M10) fun _ M11 => some (v9, M11)) FU 0 1 M := by
    unfold x_when
    rw [bde (xt_word h hw), if_neg (by decide), bde (xt_stat h hs), if_neg (by decide)]
  rw [hun]
  have := wlp (fun n k (_ : Unit) M2 => x_when_L23 (zn w) (zn s) (fun (v9 : Int32) (M6 : PM) => lt (M6.si 20 67 0) fun M7 => bd (x_tollOf (zn w) (zn s) ((M7.i 21 4) + v9) M7) fun v10 M8 => bd (x_tells (Int32.toInt64 v10) M8) fun _ M9 => bd (x_tollNow (zn w) (zn s) M9) fun v11 M10 => bd (x_tells (Int32.toInt64 v11) M10) fun _ M11 => some (v9, M11)) n (bst C w (zn s) (A 12) k) (zn (k + 1)) M2) 23 FU (FU_lt (by omega)) (fun _ s => s) () (fun k M2 => Fq ca M M2) (fun o => ∃ M2, o = some (bst C w (zn s) (A 12) 23, M2) ∧ Fq xq M M2 ∧ LX [(tol C w (zn s) (A 12 + bst C w (zn s) (A 12) 23)).toInt64, (tol C w (zn s) (A 12)).toInt64] M2) (fun n k M2 hk f => ?_) (fun n M2 f => ?_) M Fq.rf
  · exact this
  · have h2 := h.fa f
    obtain ⟨M3, e3, f3, -⟩ := xs_tollOf h2 hw (zn s) (A 12 + zn (k + 1))
    have h3 := h2.fa f3
    obtain ⟨M4, e4, f4, -⟩ := xs_tollOf h3 hw (zn s) (A 12 + bst C w (zn s) (A 12) k)
    have i2 : M2.i 21 4 = A 12 := hx12 (ha.fa f)
    have i3 : M3.i 21 4 = A 12 := hx12 ((ha.fa f).fa f3)
    refine ⟨M4, (f.tr f3).tr f4, ?_⟩
    show x_when_L23 (zn w) (zn s) _ (n + 1) (bst C w (zn s) (A 12) k) (zn (k + 1)) M2 = x_when_L23 (zn w) (zn s) _ n (bst C w (zn s) (A 12) (k + 1)) (zn (k + 1 + 1)) M4
    have e5 : zn (k + 1) + 1 = zn (k + 1 + 1) := zn_addl (k + 1) 1
    rw [x_when_L23, if_neg (by rw [l_le_zn (by omega) (by omega)]; omega), i2, bde e3, i3, bde e4, lt_u, lt_u, e5]
    rfl
  · have h2 := h.fa f
    have h3 := h2.fx (f67 (M := M2))
    have i3 : (M2.si 20 67 0).i 21 4 = A 12 := by rw [si_i, if_neg (by omega)]; exact hx12 (ha.fa f)
    obtain ⟨M4, e4, f4, -⟩ := xs_tollOf h3 hw (zn s) (A 12 + bst C w (zn s) (A 12) 23)
    obtain ⟨M5, e5, f5, l5⟩ := xs_tells (LX.fa (lx0 M2) f4) (by show 0 < 16; omega) ((tol C w (zn s) (A 12 + bst C w (zn s) (A 12) 23)).toInt64)
    obtain ⟨M6, e6, f6⟩ := xs_tollNow ((h3.fa f4).fx f5.wx) hw (zn s)
    have i5 : M5.i 21 4 = A 12 := by rw [f5.i _ _ (by unfold rwx; omega), f4.i _ _ (by unfold ca; omega)]; exact i3
    rw [i5] at e6
    obtain ⟨M7, e7, f7, l7⟩ := xs_tell1 (l5.fa f6) ((tol C w (zn s) (A 12)).toInt64)
    refine ⟨M7, ?_, ((((f.x.tr f67).tr f4.x).tr f5.wx).tr f6.x).tr f7.wx, l7⟩
    show x_when_L23 (zn w) (zn s) _ (n + 1) (bst C w (zn s) (A 12) 23) (zn (23 + 1)) M2 = _
    rw [x_when_L23, if_pos (by decide), lt_u, i3, bde e4, bde e5, bde e6, bde e7]
theorem yq_when {w s : Nat} (hw : w < C.nw) (hs : s < C.ns) : QY C A l [(tol C w (zn s) (A 12 + bst C w (zn s) (A 12) 23)).toInt64, (tol C w (zn s) (A 12)).toInt64] (bst C w (zn s) (A 12) 23) (m_when (zn w) (zn s)) := by
  intro M0 h0 ha0 _ hl
  have h := h0.fy (f13 (M := M0))
  have ha := ha0.fy (f13 (M := M0))
  obtain ⟨M, hM⟩ : ∃ M, M = M0.si 72 13 0 := ⟨_, rfl⟩
  rw [← hM] at h ha
  have f0 : Fq yq M0 M := by rw [hM]; exact f13
  have hun : m_when (zn w) (zn s) M0 = m_when_L28 (zn w) (zn s) (fun (v9 : Int32) (M8 : PM) => lt (M8.si 72 12 0) fun M9 => ck 12 44 <| bd (m_tollOf (zn w) (zn s) ((M9.i 73 (ix 12)) + v9) M9) fun v10 M10 => bd (m_tell (Int32.toInt64 v10) M10) fun _ M11 => bd (m_tollNow (zn w) (zn s) M11) fun v11 M12 => bd (m_tell (Int32.toInt64 v11) M12) fun _ M13 => some (v9, M13)) FU 0 1 M := by
    unfold m_when
    rw [lt_u, ← hM, bde (mt_word h hw), if_neg (by decide), bde (mt_stat h hs), if_neg (by decide)]
  rw [hun]
  have := wlp (fun n k (_ : Unit) M2 => m_when_L28 (zn w) (zn s) (fun (v9 : Int32) (M8 : PM) => lt (M8.si 72 12 0) fun M9 => ck 12 44 <| bd (m_tollOf (zn w) (zn s) ((M9.i 73 (ix 12)) + v9) M9) fun v10 M10 => bd (m_tell (Int32.toInt64 v10) M10) fun _ M11 => bd (m_tollNow (zn w) (zn s) M11) fun v11 M12 => bd (m_tell (Int32.toInt64 v11) M12) fun _ M13 => some (v9, M13)) n (bst C w (zn s) (A 12) k) (zn (k + 1)) M2) 23 FU (FU_lt (by omega)) (fun _ s => s) () (fun k M2 => Fq ca M M2) (fun o => ∃ M2, o = some (bst C w (zn s) (A 12) 23, M2) ∧ Fq yq M0 M2 ∧ LY [(tol C w (zn s) (A 12 + bst C w (zn s) (A 12) 23)).toInt64, (tol C w (zn s) (A 12)).toInt64] M2) (fun n k M2 hk f => ?_) (fun n M2 f => ?_) M Fq.rf
  · exact this
  · have h2 := h.fa f
    obtain ⟨M3, e3, f3, -⟩ := ms_tollOf h2 hw (zn s) (A 12 + zn (k + 1))
    have h3 := h2.fa f3
    obtain ⟨M4, e4, f4, -⟩ := ms_tollOf h3 hw (zn s) (A 12 + bst C w (zn s) (A 12) k)
    have i2 : M2.i 73 12 = A 12 := hy12 (ha.fa f)
    have i3 : M3.i 73 12 = A 12 := hy12 ((ha.fa f).fa f3)
    refine ⟨M4, (f.tr f3).tr f4, ?_⟩
    show m_when_L28 (zn w) (zn s) _ (n + 1) (bst C w (zn s) (A 12) k) (zn (k + 1)) M2 = m_when_L28 (zn w) (zn s) _ n (bst C w (zn s) (A 12) (k + 1)) (zn (k + 1 + 1)) M4
    have e5 : zn (k + 1) + 1 = zn (k + 1 + 1) := zn_addl (k + 1) 1
    have es : bst C w (zn s) (A 12) (k + 1) = if tol C w (zn s) (A 12 + bst C w (zn s) (A 12) k) ≤ tol C w (zn s) (A 12 + zn (k + 1)) then bst C w (zn s) (A 12) k else zn (k + 1) := rfl
    rw [es]
    have g24 : ¬ 24 ≤ k + 1 := by omega
    by_cases q : tol C w (zn s) (A 12 + bst C w (zn s) (A 12) k) ≤ tol C w (zn s) (A 12 + zn (k + 1))
    · simp (disch := omega) only [m_when_L28, ↓lt_u, ↓jn_u, ↓bd_s, bd_s, ↓rf_s, rf_s, ↓nl_s, ↓nl_n, nl_s, nl_n, ↓reduceIte, ↓ckb24, ↓ckb256, ckb_T, ckb01, ↓ck_zn, ↓ck_l, ck_zn, ck_l, z_ne_o, o_ne_z, zn_addl, zn_le, ix_zn, l_le_zn, zn_lt_l, l_lt_zn, zn_lt, Nat.zero_le, Nat.le_refl, Nat.not_lt_zero, Int32.reduceLE, Int32.reduceLT, eq_self, b01_0, b10_0, ix_l, vsi_i, vsi_l, vsi_r, vsi_k, vsi_n, vsi_w, vsl_i, vsl_l, vsl_r, vsl_k, vsl_n, vsl_w, vsr_i, vsr_l, vsr_r, vsr_k, vsr_n, vsr_w, and_self, and_true, true_and, and_false, false_and, or_self, or_true, true_or, or_false, false_or, not_true_eq_false, not_false_eq_true, ne_eq, eq_self, reduceCtorEq, Nat.reduceEqDiff, Nat.reduceAdd, Nat.reduceMul, Nat.reduceSub, Nat.reduceLT, Nat.reduceLeDiff, Nat.reduceDiv, Nat.add_zero, Nat.zero_add, Nat.not_lt_zero, Nat.zero_le, Nat.le_refl, Nat.lt_irrefl, i2, ↓bde e3, i3, ↓bde e4, e3, e4, q, g24]
    · simp (disch := omega) only [m_when_L28, ↓lt_u, ↓jn_u, ↓bd_s, bd_s, ↓rf_s, rf_s, ↓nl_s, ↓nl_n, nl_s, nl_n, ↓reduceIte, ↓ckb24, ↓ckb256, ckb_T, ckb01, ↓ck_zn, ↓ck_l, ck_zn, ck_l, z_ne_o, o_ne_z, zn_addl, zn_le, ix_zn, l_le_zn, zn_lt_l, l_lt_zn, zn_lt, Nat.zero_le, Nat.le_refl, Nat.not_lt_zero, Int32.reduceLE, Int32.reduceLT, eq_self, b01_0, b10_0, ix_l, vsi_i, vsi_l, vsi_r, vsi_k, vsi_n, vsi_w, vsl_i, vsl_l, vsl_r, vsl_k, vsl_n, vsl_w, vsr_i, vsr_l, vsr_r, vsr_k, vsr_n, vsr_w, and_self, and_true, true_and, and_false, false_and, or_self, or_true, true_or, or_false, false_or, not_true_eq_false, not_false_eq_true, ne_eq, eq_self, reduceCtorEq, Nat.reduceEqDiff, Nat.reduceAdd, Nat.reduceMul, Nat.reduceSub, Nat.reduceLT, Nat.reduceLeDiff, Nat.reduceDiv, Nat.add_zero, Nat.zero_add, Nat.not_lt_zero, Nat.zero_le, Nat.le_refl, Nat.lt_irrefl, i2, ↓bde e3, i3, ↓bde e4, e3, e4, q, g24]
  · have h2 := h.fa f
    have h3 := h2.fy (f12 (M := M2))
    have i3 : (M2.si 72 12 0).i 73 12 = A 12 := by rw [si_i, if_neg (by omega)]; exact hy12 (ha.fa f)
    obtain ⟨M4, e4, f4, -⟩ := ms_tollOf h3 hw (zn s) (A 12 + bst C w (zn s) (A 12) 23)
    obtain ⟨M5, e5, f5, l5⟩ := ms_tell (LY.fa (ly0 M2) f4) (by show 0 < 20; omega) ((tol C w (zn s) (A 12 + bst C w (zn s) (A 12) 23)).toInt64)
    obtain ⟨M6, e6, f6⟩ := ms_tollNow ((h3.fa f4).fy f5.wy) hw (zn s)
    have i5 : M5.i 73 12 = A 12 := by rw [f5.i _ _ (by unfold rwy; omega), f4.i _ _ (by unfold ca; omega)]; exact i3
    rw [i5] at e6
    obtain ⟨M7, e7, f7, l7⟩ := ms_tell1 (l5.fa f6) ((tol C w (zn s) (A 12)).toInt64)
    refine ⟨M7, ?_, (((((f0.tr f.y).tr f12).tr f4.y).tr f5.wy).tr f6.y).tr f7.wy, l7⟩
    show m_when_L28 (zn w) (zn s) _ (n + 1) (bst C w (zn s) (A 12) 23) (zn (23 + 1)) M2 = _
    rw [m_when_L28, if_pos (by decide), lt_u, ck12, ix12, i3, bde e4, bde e5, bde e6, bde e7]
theorem call_when (p q : Int32) : Call (x_when p q) (m_when p q) := by
  refine Call.of (fun C A l hC hA hl => ?_)
  have b1 := hC.nw10
  have b2 := hC.ns6
  rcases dm_or (show C.nw < 2147483648 by omega) p with ⟨w, hw, rfl⟩ | hn
  · rcases dm_or (show C.ns < 2147483648 by omega) q with ⟨s, hs, rfl⟩ | hn2
    · exact ⟨_, _, two15 _ _, xq_when hw hs, yq_when hw hs⟩
    · refine ⟨-1, l, hl, fun M h ha _ hx => ⟨M, ?_, Fq.rf, hx⟩, fun M h ha _ hx => ⟨M.si 72 13 0, ?_, f13, ly13 hx⟩⟩
      · unfold x_when
        rw [bde (xt_word h hw), if_neg (by decide), bde (xn_stat h hn2), if_pos rfl]
      · unfold m_when
        rw [lt_u, bde (mt_word (h.fy f13) hw), if_neg (by decide), bde (mn_stat (h.fy f13) hn2), if_pos rfl]
  · refine ⟨-1, l, hl, fun M h ha _ hx => ⟨M, ?_, Fq.rf, hx⟩, fun M h ha _ hx => ⟨M.si 72 13 0, ?_, f13, ly13 hx⟩⟩
    · unfold x_when
      rw [bde (xn_word h hn), if_pos rfl]
    · unfold m_when
      rw [lt_u, bde (mn_word (h.fy f13) hn), if_pos rfl]
/-! what comes in -/
def its (C : SV) (hr d st : Int32) (x e : Nat) : Int32 := if zn (C.wh e) = st then (if ((d >>> (zn e &&& 31)) &&& 1) = 1 then 1000000000 else (chp C hr (zn (C.em e)) st (zn x) C.nw).2) else 1000000000
def cmi (C : SV) (hr d st : Int32) (x n : Nat) : Int32 × Int32 := itr (fun e s => if its C hr d st x e ≤ zn (C.wo e) then (s.1 + its C hr d st x e, s.2 + 1) else s) n (0, 0)
theorem cmi_s (C : SV) (hr d st : Int32) (x n : Nat) : cmi C hr d st x (n + 1) = if its C hr d st x n ≤ zn (C.wo n) then ((cmi C hr d st x n).1 + its C hr d st x n, (cmi C hr d st x n).2 + 1) else cmi C hr d st x n := rfl
abbrev cc (o j : Nat) : Prop := ca o j ∨ (o = 20 ∧ j = 57) ∨ (o = 72 ∧ j = 43)
theorem Fq.cx (f : Fq cc M M1) : Fq xq M M1 := f.mo (fun o j q => by unfold cc ca at q; unfold xq ts; omega)
theorem Fq.cy (f : Fq cc M M1) : Fq yq M M1 := f.mo (fun o j q => by unfold cc ca at q; unfold yq ts; omega)
theorem Fq.cc (f : Fq ca M M1) : Fq (fun o j => ca o j ∨ (o = 20 ∧ j = 57) ∨ (o = 72 ∧ j = 43)) M M1 := f.mo (fun o j q => Or.inl q)
theorem xs_comesIn (h : CX C M) (ha : RvX 21 A M) {s x : Nat} (hx : x ≤ 99) : ∃ M', x_comesIn (zn s) (zn x) M = some ((cmi C (A 12) (A 13) (zn s) x C.ne).1, M') ∧ Fq cc M M' ∧ M'.i 20 57 = (cmi C (A 12) (A 13) (zn s) x C.ne).2 := by
  have b1 := h.ok.ne8
  have b2 := h.ok.nw10
  unfold x_comesIn
  rw [lt_u]
  have := wlp (fun n k (_ : Unit) M2 => x_comesIn_L10 (zn s) (zn x) n (cmi C (A 12) (A 13) (zn s) x k).1 (zn k) M2) C.ne FU (FU_lt (by omega)) (fun _ s => s) () (fun k M2 => Fq cc M M2 ∧ M2.i 20 57 = (cmi C (A 12) (A 13) (zn s) x k).2) (fun o => ∃ M', o = some ((cmi C (A 12) (A 13) (zn s) x C.ne).1, M') ∧ Fq cc M M' ∧ M'.i 20 57 = (cmi C (A 12) (A 13) (zn s) x C.ne).2) (fun n k M2 hk hI => ?_) (fun n M2 hI => ?_) (M.si 20 57 0) ⟨Fq.rf.si (by unfold cc; omega), by rw [si_i, if_pos ⟨rfl, rfl⟩]; rfl⟩
  · exact this
  · obtain ⟨f, i57⟩ := hI
    have h2 := h.fx f.cx
    have a2 := ha.fx f.cx
    have g : ¬ C.ne ≤ k := by omega
    have hwo := h2.wo k hk
    have hwh := h2.wh k hk
    have hem := h2.em k hk
    have i13 := hx13 a2
    have w99 := h.ok.wo99 k hk
    show ∃ M', _ ∧ x_comesIn_L10 (zn s) (zn x) (n + 1) (cmi C (A 12) (A 13) (zn s) x k).1 (zn k) M2 = x_comesIn_L10 (zn s) (zn x) n (cmi C (A 12) (A 13) (zn s) x (k + 1)).1 (zn (k + 1)) M'
    have hmu2 : ¬ 1000000000 ≤ C.wo k := by omega
    have hmu : ¬ (1000000000 : Int32) ≤ zn (C.wo k) := by rw [l_le_zn (by omega) (by omega)]; omega
    by_cases c1 : zn (C.wh k) = zn s
    · by_cases c2 : (((A 13) >>> (zn k &&& 31)) &&& 1) = 1
      · have ei : its C (A 12) (A 13) (zn s) x k = 1000000000 := by unfold its; rw [if_pos c1, if_pos c2]
        have es : cmi C (A 12) (A 13) (zn s) x (k + 1) = cmi C (A 12) (A 13) (zn s) x k := by rw [cmi_s, ei, if_neg hmu]
        refine ⟨M2, ⟨f, by rw [es]; exact i57⟩, ?_⟩
        simp (disch := omega) only [es, x_comesIn_L10, ↓lt_u, ↓jn_u, ↓bd_s, bd_s, ↓rf_s, rf_s, ↓nl_s, ↓nl_n, nl_s, nl_n, ↓reduceIte, ↓ckb24, ↓ckb256, ckb_T, ckb01, ↓ck_zn, ↓ck_l, ck_zn, ck_l, z_ne_o, o_ne_z, zn_addl, zn_le, ix_zn, l_le_zn, zn_lt_l, l_lt_zn, zn_lt, Nat.zero_le, Nat.le_refl, Nat.not_lt_zero, Int32.reduceLE, Int32.reduceLT, eq_self, b01_0, b10_0, ix_l, vsi_i, vsi_l, vsi_r, vsi_k, vsi_n, vsi_w, vsl_i, vsl_l, vsl_r, vsl_k, vsl_n, vsl_w, vsr_i, vsr_l, vsr_r, vsr_k, vsr_n, vsr_w, and_self, and_true, true_and, and_false, false_and, or_self, or_true, true_or, or_false, false_or, not_true_eq_false, not_false_eq_true, ne_eq, eq_self, reduceCtorEq, Nat.reduceEqDiff, Nat.reduceAdd, Nat.reduceMul, Nat.reduceSub, Nat.reduceLT, Nat.reduceLeDiff, Nat.reduceDiv, Nat.add_zero, Nat.zero_add, Nat.not_lt_zero, Nat.zero_le, Nat.le_refl, Nat.lt_irrefl, h2.ne, g, hwh, c1, i13, ↓bde (xs_has _ _ _), xs_has, c2, hwo, hmu2]
      · obtain ⟨M3, e3, f3⟩ := xs_cheapestFor h2 (zn (C.em k)) (zn s) (zn x)
        rw [hx12 a2] at e3
        have h3 := h2.fa f3
        have ei : its C (A 12) (A 13) (zn s) x k = (chp C (A 12) (zn (C.em k)) (zn s) (zn x) C.nw).2 := by unfold its; rw [if_pos c1, if_neg c2]
        rcases chp_or h.ok (A 12) (zn (C.em k)) (zn s) hx C.nw (Nat.le_refl _) with ⟨q1, q2, q3⟩ | ⟨b, q1, q2, q3, q4⟩
        · have e3' : x_cheapestFor (zn (C.em k)) (zn s) (zn x) M2 = some (-1, M3) := by rw [e3]; unfold chw; rw [q1]
          have es : cmi C (A 12) (A 13) (zn s) x (k + 1) = cmi C (A 12) (A 13) (zn s) x k := by rw [cmi_s, ei, q2, if_neg hmu]
          refine ⟨M3, ⟨f.tr (f3.mo (fun o j q => Or.inl q)), by rw [es, f3.i _ _ (by unfold ca; omega)]; exact i57⟩, ?_⟩
          have hwo3 := h3.wo k hk
          simp (disch := omega) only [es, x_comesIn_L10, ↓lt_u, ↓jn_u, ↓bd_s, bd_s, ↓rf_s, rf_s, ↓nl_s, ↓nl_n, nl_s, nl_n, ↓reduceIte, ↓ckb24, ↓ckb256, ckb_T, ckb01, ↓ck_zn, ↓ck_l, ck_zn, ck_l, z_ne_o, o_ne_z, zn_addl, zn_le, ix_zn, l_le_zn, zn_lt_l, l_lt_zn, zn_lt, Nat.zero_le, Nat.le_refl, Nat.not_lt_zero, Int32.reduceLE, Int32.reduceLT, eq_self, b01_0, b10_0, ix_l, vsi_i, vsi_l, vsi_r, vsi_k, vsi_n, vsi_w, vsl_i, vsl_l, vsl_r, vsl_k, vsl_n, vsl_w, vsr_i, vsr_l, vsr_r, vsr_k, vsr_n, vsr_w, and_self, and_true, true_and, and_false, false_and, or_self, or_true, true_or, or_false, false_or, not_true_eq_false, not_false_eq_true, ne_eq, eq_self, reduceCtorEq, Nat.reduceEqDiff, Nat.reduceAdd, Nat.reduceMul, Nat.reduceSub, Nat.reduceLT, Nat.reduceLeDiff, Nat.reduceDiv, Nat.add_zero, Nat.zero_add, Nat.not_lt_zero, Nat.zero_le, Nat.le_refl, Nat.lt_irrefl, h2.ne, g, hwh, c1, i13, ↓bde (xs_has _ _ _), xs_has, c2, hem, ↓bde e3', e3', hwo3, hmu2]
        · have e3' : x_cheapestFor (zn (C.em k)) (zn s) (zn x) M2 = some (zn b, M3) := by rw [e3]; unfold chw; rw [q2]
          obtain ⟨M4, e4, f4⟩ := xs_tollNow h3 q1 (zn s)
          rw [hx12 (a2.fa f3)] at e4
          have h4 := h3.fa f4
          have e5 := xs_vowelsOf h4 q1
          have hwo4 := h4.wo k hk
          have i57' : M4.i 20 57 = (cmi C (A 12) (A 13) (zn s) x k).2 := by rw [f4.i _ _ (by unfold ca; omega), f3.i _ _ (by unfold ca; omega)]; exact i57
          rw [q4] at ei
          by_cases c3 : tol C b (zn s) (A 12) + zn x * nvo C b ≤ zn (C.wo k)
          · have es : cmi C (A 12) (A 13) (zn s) x (k + 1) = ((cmi C (A 12) (A 13) (zn s) x k).1 + (tol C b (zn s) (A 12) + zn x * nvo C b), (cmi C (A 12) (A 13) (zn s) x k).2 + 1) := by rw [cmi_s, ei, if_pos c3]
            refine ⟨M4.si 20 57 ((cmi C (A 12) (A 13) (zn s) x k).2 + 1), ⟨((f.tr (f3.mo (fun o j q => Or.inl q))).tr (f4.mo (fun o j q => Or.inl q))).si (by unfold cc; omega), by rw [es, si_i, if_pos ⟨rfl, rfl⟩]⟩, ?_⟩
            simp (disch := omega) only [es, x_comesIn_L10, ↓lt_u, ↓jn_u, ↓bd_s, bd_s, ↓rf_s, rf_s, ↓nl_s, ↓nl_n, nl_s, nl_n, ↓reduceIte, ↓ckb24, ↓ckb256, ckb_T, ckb01, ↓ck_zn, ↓ck_l, ck_zn, ck_l, z_ne_o, o_ne_z, zn_addl, zn_le, ix_zn, l_le_zn, zn_lt_l, l_lt_zn, zn_lt, Nat.zero_le, Nat.le_refl, Nat.not_lt_zero, Int32.reduceLE, Int32.reduceLT, eq_self, b01_0, b10_0, ix_l, vsi_i, vsi_l, vsi_r, vsi_k, vsi_n, vsi_w, vsl_i, vsl_l, vsl_r, vsl_k, vsl_n, vsl_w, vsr_i, vsr_l, vsr_r, vsr_k, vsr_n, vsr_w, and_self, and_true, true_and, and_false, false_and, or_self, or_true, true_or, or_false, false_or, not_true_eq_false, not_false_eq_true, ne_eq, eq_self, reduceCtorEq, Nat.reduceEqDiff, Nat.reduceAdd, Nat.reduceMul, Nat.reduceSub, Nat.reduceLT, Nat.reduceLeDiff, Nat.reduceDiv, Nat.add_zero, Nat.zero_add, Nat.not_lt_zero, Nat.zero_le, Nat.le_refl, Nat.lt_irrefl, h2.ne, g, hwh, c1, i13, ↓bde (xs_has _ _ _), xs_has, c2, hem, ↓bde e3', e3', ↓bde e4, e4, ↓bde e5, e5, hwo4, c3, i57']
          · have es : cmi C (A 12) (A 13) (zn s) x (k + 1) = cmi C (A 12) (A 13) (zn s) x k := by rw [cmi_s, ei, if_neg c3]
            refine ⟨M4, ⟨(f.tr (f3.mo (fun o j q => Or.inl q))).tr (f4.mo (fun o j q => Or.inl q)), by rw [es]; exact i57'⟩, ?_⟩
            simp (disch := omega) only [es, x_comesIn_L10, ↓lt_u, ↓jn_u, ↓bd_s, bd_s, ↓rf_s, rf_s, ↓nl_s, ↓nl_n, nl_s, nl_n, ↓reduceIte, ↓ckb24, ↓ckb256, ckb_T, ckb01, ↓ck_zn, ↓ck_l, ck_zn, ck_l, z_ne_o, o_ne_z, zn_addl, zn_le, ix_zn, l_le_zn, zn_lt_l, l_lt_zn, zn_lt, Nat.zero_le, Nat.le_refl, Nat.not_lt_zero, Int32.reduceLE, Int32.reduceLT, eq_self, b01_0, b10_0, ix_l, vsi_i, vsi_l, vsi_r, vsi_k, vsi_n, vsi_w, vsl_i, vsl_l, vsl_r, vsl_k, vsl_n, vsl_w, vsr_i, vsr_l, vsr_r, vsr_k, vsr_n, vsr_w, and_self, and_true, true_and, and_false, false_and, or_self, or_true, true_or, or_false, false_or, not_true_eq_false, not_false_eq_true, ne_eq, eq_self, reduceCtorEq, Nat.reduceEqDiff, Nat.reduceAdd, Nat.reduceMul, Nat.reduceSub, Nat.reduceLT, Nat.reduceLeDiff, Nat.reduceDiv, Nat.add_zero, Nat.zero_add, Nat.not_lt_zero, Nat.zero_le, Nat.le_refl, Nat.lt_irrefl, h2.ne, g, hwh, c1, i13, ↓bde (xs_has _ _ _), xs_has, c2, hem, ↓bde e3', e3', ↓bde e4, e4, ↓bde e5, e5, hwo4, c3]
    · have ei : its C (A 12) (A 13) (zn s) x k = 1000000000 := by unfold its; rw [if_neg c1]
      have es : cmi C (A 12) (A 13) (zn s) x (k + 1) = cmi C (A 12) (A 13) (zn s) x k := by rw [cmi_s, ei, if_neg hmu]
      refine ⟨M2, ⟨f, by rw [es]; exact i57⟩, ?_⟩
      simp (disch := omega) only [es, x_comesIn_L10, ↓lt_u, ↓jn_u, ↓bd_s, bd_s, ↓rf_s, rf_s, ↓nl_s, ↓nl_n, nl_s, nl_n, ↓reduceIte, ↓ckb24, ↓ckb256, ckb_T, ckb01, ↓ck_zn, ↓ck_l, ck_zn, ck_l, z_ne_o, o_ne_z, zn_addl, zn_le, ix_zn, l_le_zn, zn_lt_l, l_lt_zn, zn_lt, Nat.zero_le, Nat.le_refl, Nat.not_lt_zero, Int32.reduceLE, Int32.reduceLT, eq_self, b01_0, b10_0, ix_l, vsi_i, vsi_l, vsi_r, vsi_k, vsi_n, vsi_w, vsl_i, vsl_l, vsl_r, vsl_k, vsl_n, vsl_w, vsr_i, vsr_l, vsr_r, vsr_k, vsr_n, vsr_w, and_self, and_true, true_and, and_false, false_and, or_self, or_true, true_or, or_false, false_or, not_true_eq_false, not_false_eq_true, ne_eq, eq_self, reduceCtorEq, Nat.reduceEqDiff, Nat.reduceAdd, Nat.reduceMul, Nat.reduceSub, Nat.reduceLT, Nat.reduceLeDiff, Nat.reduceDiv, Nat.add_zero, Nat.zero_add, Nat.not_lt_zero, Nat.zero_le, Nat.le_refl, Nat.lt_irrefl, h2.ne, g, hwh, c1, hwo, hmu2]
  · obtain ⟨f, i57⟩ := hI
    have h2 := h.fx f.cx
    refine ⟨M2, ?_, f, i57⟩
    show x_comesIn_L10 (zn s) (zn x) (n + 1) _ (zn C.ne) M2 = _
    rw [x_comesIn_L10, h2.ne, if_pos (Int32.le_refl _)]
end
