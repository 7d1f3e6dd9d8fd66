set_option maxRecDepth 100000
/-! SHORTEST -/
def shB (C : SV) (hr m st n : Int32) (k : Nat) : Option Nat := itr (fun w s => if mns C w m ∧ tol C w st hr ≤ n then (match s with
  | none => some w
  | some b => if C.len w < C.len b ∨ (C.len w = C.len b ∧ tol C w st hr < tol C b st hr) then some w else some b) else s) k none
theorem shB_s (C : SV) (hr m st n : Int32) (k : Nat) : shB C hr m st n (k + 1) = if mns C k m ∧ tol C k st hr ≤ n then (match shB C hr m st n k with
  | none => some k
  | some b => if C.len k < C.len b ∨ (C.len k = C.len b ∧ tol C k st hr < tol C b st hr) then some k else some b) else shB C hr m st n k := rfl
theorem shB_lt (C : SV) (hr m st n : Int32) : ∀ k b, shB C hr m st n k = some b → b < k := by
  intro k
  induction k with
  | zero => intro b h; cases h
  | succ k ih =>
    intro b h
    rw [shB_s] at h
    split at h
    · revert h
      generalize hq : shB C hr m st n k = q
      intro h
      cases q with
      | none => cases h; omega
      | some d =>
        have := ih d hq
        simp only at h
        split at h
        · cases h; omega
        · cases h; omega
    · have := ih b h; omega
def e2o (s : Option Nat) : Int32 := match s with
  | none => -2
  | some b => zn b
def e1o (s : Option Nat) : Int32 := match s with
  | none => -1
  | some b => zn b
theorem ln_lt : ∀ a, a ≤ 6 → ∀ b, b ≤ 6 → (zn a - zn b < 0) = (a < b) := by
  have h : ∀ a, a < 7 → ∀ b, b < 7 → decide (zn a - zn b < 0) = decide (a < b) := by decide +kernel
  intro a ha b hb
  exact propext (decide_eq_decide.mp (h a (by omega) b (by omega)))
theorem ln_eq : ∀ a, a ≤ 6 → ∀ b, b ≤ 6 → (zn a - zn b = 0) = (a = b) := by
  have h : ∀ a, a < 7 → ∀ b, b < 7 → decide (zn a - zn b = 0) = decide (a = b) := by decide +kernel
  intro a ha b hb
  exact propext (decide_eq_decide.mp (h a (by omega) b (by omega)))
section
variable {C : SV} {A : Nat → Int32} {M M1 : PM} {l : List Int64}
theorem xs_shLoop (h : CX C M) (m st n : Int32) (Kc : Int32 → PM → Option (Int32 × PM)) : ∃ M', x_shortest_L41 m st n Kc FU (-2) 0 M = Kc (e2o (shB C (M.i 21 4) m st n C.nw)) M' ∧ Fq ca M M' := by
  have b1 := h.ok.nw10
  obtain ⟨hr, ehr⟩ : ∃ hr, hr = M.i 21 4 := ⟨_, rfl⟩
  rw [← ehr]
  refine wlp (fun nn k (_ : Unit) M2 => x_shortest_L41 m st n Kc nn (e2o (shB C hr m st n k)) (zn k) M2) C.nw FU (FU_lt (by omega)) (fun _ s => s) () (fun _ M2 => Fq ca M M2) (fun o => ∃ M', o = Kc (e2o (shB C hr m st n C.nw)) M' ∧ Fq ca M M') (fun nn k M2 hk f => ?_) (fun nn M2 f => ?_) M Fq.rf
  · have h2 := h.fa f
    obtain ⟨M3, e3, f3⟩ := xs_tollNow h2 hk st
    rw [hr_ca f, ← ehr] at e3
    have h3 := h2.fa f3
    have hb := shB_lt C hr m st n k
    show ∃ M', _ ∧ x_shortest_L41 m st n Kc (nn + 1) (e2o (shB C hr m st n k)) (zn k) M2 = x_shortest_L41 m st n Kc nn (e2o (shB C hr m st n (k + 1))) (zn (k + 1)) M'
    rw [shB_s]
    revert hb
    generalize shB C hr m st n k = q
    intro hb
    by_cases hm : mns C k m
    · by_cases hn : tol C k st hr ≤ n
      · rw [if_pos ⟨hm, hn⟩]
        cases q with
        | none =>
          refine ⟨M3, f.tr f3, ?_⟩
          show x_shortest_L41 m st n Kc (nn + 1) (-2) (zn k) M2 = x_shortest_L41 m st n Kc nn (zn k) (zn (k + 1)) M3
          (rw [x_shortest_L41, h2.nw, if_neg (by rw [zn_le (by omega) (by omega)]; omega), bde e3, bde (xs_means h3 hk m), if_pos hm]; (try simp only [jn_u]); rw [if_neg (by decide), if_pos hn, if_neg (by decide), if_pos (by decide), lt_u, zn_addl])
        | some b =>
          have hbk := hb b rfl
          have l1 := h.ok.len6 k hk
          have l2 := h.ok.len6 b (by omega)
          have hun : x_shortest_L41 m st n Kc (nn + 1) (zn b) (zn k) M2 = jn (fun (v10 : Int32) (M8 : PM) => jn (fun (v11 : Int32) (M9 : PM) => lt (zn k + 1) fun v9 => x_shortest_L41 m st n Kc nn v11 v9 M9) fun j3 => if v10 < 0 then (j3 (zn k) M8) else (if v10 = 0 then (bd (x_tollNow (zn b) st M8) fun v12 M10 => if v12 ≤ tol C k st hr then (j3 (zn b) M10) else (j3 (zn k) M10)) else (j3 (zn b) M8))) fun j2 => j2 (zn (C.len k) - zn (C.len b)) M3 := by
            (rw [x_shortest_L41, h2.nw, if_neg (by rw [zn_le (by omega) (by omega)]; omega), bde e3, bde (xs_means h3 hk m), if_pos hm]; (try simp only [jn_u]); rw [if_neg (by decide), if_pos hn, if_pos (zn_nonneg (by omega)), ck_zn (by omega) (by omega), ck_zn (by omega) (by omega), ix_zn (by omega), ix_zn (by omega), h3.len k hk, h3.len b (by omega)])
          show ∃ M', _ ∧ x_shortest_L41 m st n Kc (nn + 1) (zn b) (zn k) M2 = x_shortest_L41 m st n Kc nn (e2o (if C.len k < C.len b ∨ (C.len k = C.len b ∧ tol C k st hr < tol C b st hr) then some k else some b)) (zn (k + 1)) M'
          rw [hun]
          by_cases c1 : C.len k < C.len b
          · refine ⟨M3, f.tr f3, ?_⟩
            (rw [if_pos (Or.inl c1)]; (try simp only [jn_u]); rw [if_pos (by rw [ln_lt _ l1 _ l2]; exact c1), lt_u, zn_addl])
            rfl
          · by_cases c2 : C.len k = C.len b
            · obtain ⟨M4, e4, f4⟩ := xs_tollNow h3 (show b < C.nw by omega) st
              rw [hr_ca f3, hr_ca f, ← ehr] at e4
              refine ⟨M4, (f.tr f3).tr f4, ?_⟩
              ((try simp only [jn_u]); rw [if_neg (by rw [ln_lt _ l1 _ l2]; exact c1), if_pos (by rw [ln_eq _ l1 _ l2]; exact c2), bde e4])
              by_cases c3 : tol C b st hr ≤ tol C k st hr
              · rw [if_pos c3, if_neg (fun w => w.elim (fun z => c1 z) (fun z => absurd z.2 (Int32.not_lt.mpr c3))), lt_u, zn_addl]
                rfl
              · rw [if_neg c3, if_pos (Or.inr ⟨c2, Int32.not_le.mp c3⟩), lt_u, zn_addl]
                rfl
            · refine ⟨M3, f.tr f3, ?_⟩
              ((try simp only [jn_u]); rw [if_neg (by rw [ln_lt _ l1 _ l2]; exact c1), if_neg (by rw [ln_eq _ l1 _ l2]; exact c2), if_neg (fun w => w.elim (fun z => c1 z) (fun z => c2 z.1)), lt_u, zn_addl])
              rfl
      · rw [if_neg (fun w => hn w.2)]
        refine ⟨M3, f.tr f3, ?_⟩
        (rw [x_shortest_L41, h2.nw, if_neg (by rw [zn_le (by omega) (by omega)]; omega), bde e3, bde (xs_means h3 hk m), if_pos hm]; (try simp only [jn_u]); rw [if_neg (by decide), if_neg hn, lt_u, zn_addl])
    · rw [if_neg (fun w => hm w.1)]
      refine ⟨M3, f.tr f3, ?_⟩
      (rw [x_shortest_L41, h2.nw, if_neg (by rw [zn_le (by omega) (by omega)]; omega), bde e3, bde (xs_means h3 hk m), if_neg hm]; (try simp only [jn_u]); rw [if_pos (by trivial), lt_u, zn_addl])
  · have h2 := h.fa f
    refine ⟨M2, ?_, f⟩
    show x_shortest_L41 m st n Kc (nn + 1) _ (zn C.nw) M2 = _
    rw [x_shortest_L41, h2.nw, if_pos (Int32.le_refl _)]
theorem ms_shLoop (h : CY 83 C M) (m st n : Int32) (Kc : Int32 → PM → Option (Int32 × PM)) : ∃ M', m_shortest_L39 m st n Kc FU (-1) 0 M = Kc (e1o (shB C (M.i 73 12) m st n C.nw)) M' ∧ Fq ca M M' := by
  have b1 := h.ok.nw10
  obtain ⟨hr, ehr⟩ : ∃ hr, hr = M.i 73 12 := ⟨_, rfl⟩
  rw [← ehr]
  refine wlp (fun nn k (_ : Unit) M2 => m_shortest_L39 m st n Kc nn (e1o (shB C hr m st n k)) (zn k) M2) C.nw FU (FU_lt (by omega)) (fun _ s => s) () (fun _ M2 => Fq ca M M2) (fun o => ∃ M', o = Kc (e1o (shB C hr m st n C.nw)) M' ∧ Fq ca M M') (fun nn k M2 hk f => ?_) (fun nn M2 f => ?_) M Fq.rf
  · have h2 := h.fa f
    obtain ⟨M3, e3, f3⟩ := ms_tollNow h2 hk st
    rw [hy_ca f 12, ← ehr] at e3
    have h3 := h2.fa f3
    have hb := shB_lt C hr m st n k
    show ∃ M', _ ∧ m_shortest_L39 m st n Kc (nn + 1) (e1o (shB C hr m st n k)) (zn k) M2 = m_shortest_L39 m st n Kc nn (e1o (shB C hr m st n (k + 1))) (zn (k + 1)) M'
    rw [shB_s]
    revert hb
    generalize shB C hr m st n k = q
    intro hb
    by_cases hm : mns C k m
    · by_cases hn : tol C k st hr ≤ n
      · rw [if_pos ⟨hm, hn⟩]
        cases q with
        | none =>
          refine ⟨M3, f.tr f3, ?_⟩
          show m_shortest_L39 m st n Kc (nn + 1) (-1) (zn k) M2 = m_shortest_L39 m st n Kc nn (zn k) (zn (k + 1)) M3
          (rw [m_shortest_L39, h2.nw, if_neg (by rw [zn_le (by omega) (by omega)]; omega), bde (ms_means h2 hk m), if_pos hm]; (try simp only [jn_u]); rw [if_neg (by decide), bde e3, if_pos hn, if_pos (by trivial), lt_u, zn_addl])
        | some b =>
          have hbk := hb b rfl
          have l1 := h.ok.len6 k hk
          have l2 := h.ok.len6 b (by omega)
          have lk := h3.len k hk
          have lb := h3.len b (show b < C.nw by omega)
          show ∃ M', _ ∧ m_shortest_L39 m st n Kc (nn + 1) (zn b) (zn k) M2 = m_shortest_L39 m st n Kc nn (e1o (if C.len k < C.len b ∨ (C.len k = C.len b ∧ tol C k st hr < tol C b st hr) then some k else some b)) (zn (k + 1)) M'
          by_cases c1 : C.len k < C.len b
          · refine ⟨M3, f.tr f3, ?_⟩
            (rw [if_pos (Or.inl c1), m_shortest_L39, h2.nw, if_neg (by rw [zn_le (by omega) (by omega)]; omega), bde (ms_means h2 hk m), if_pos hm]; (try simp only [jn_u]); rw [if_neg (by decide), bde e3, if_pos hn, if_neg (by rw [zn_eq_m (by omega)]; exact id), ck_zn (by omega) (by omega), ck_zn (by omega) (by omega), ix_zn (by omega), ix_zn (by omega), lk, lb, if_pos (by rw [zn_lt (by omega) (by omega)]; exact c1), lt_u, zn_addl])
            rfl
          · by_cases c2 : C.len k = C.len b
            · obtain ⟨M4, e4, f4⟩ := ms_tollNow h3 hk st
              rw [hy_ca f3 12, hy_ca f 12, ← ehr] at e4
              obtain ⟨M5, e5, f5⟩ := ms_tollNow (h3.fa f4) (show b < C.nw by omega) st
              rw [hy_ca f4 12, hy_ca f3 12, hy_ca f 12, ← ehr] at e5
              refine ⟨M5, ((f.tr f3).tr f4).tr f5, ?_⟩
              (rw [m_shortest_L39, h2.nw, if_neg (by rw [zn_le (by omega) (by omega)]; omega), bde (ms_means h2 hk m), if_pos hm]; (try simp only [jn_u]); rw [if_neg (by decide), bde e3, if_pos hn, if_neg (by rw [zn_eq_m (by omega)]; exact id), ck_zn (by omega) (by omega), ck_zn (by omega) (by omega), ix_zn (by omega), ix_zn (by omega), lk, lb, if_neg (by rw [zn_lt (by omega) (by omega)]; exact c1), ck_zn (by omega) (by omega), ck_zn (by omega) (by omega), if_pos (by rw [c2]), bde e4, bde e5])
              by_cases c3 : tol C b st hr ≤ tol C k st hr
              · rw [if_pos c3, if_neg (fun w => w.elim (fun z => c1 z) (fun z => absurd z.2 (Int32.not_lt.mpr c3))), lt_u, zn_addl]
                rfl
              · rw [if_neg c3, if_pos (Or.inr ⟨c2, Int32.not_le.mp c3⟩), lt_u, zn_addl]
                rfl
            · refine ⟨M3, f.tr f3, ?_⟩
              (rw [if_neg (show ¬ (C.len k < C.len b ∨ (C.len k = C.len b ∧ tol C k st hr < tol C b st hr)) from fun w => w.elim (fun z => c1 z) (fun z => c2 z.1)), m_shortest_L39, h2.nw, if_neg (by rw [zn_le (by omega) (by omega)]; omega), bde (ms_means h2 hk m), if_pos hm]; (try simp only [jn_u]); rw [if_neg (by decide), bde e3, if_pos hn, if_neg (by rw [zn_eq_m (by omega)]; exact id), ck_zn (by omega) (by omega), ck_zn (by omega) (by omega), ix_zn (by omega), ix_zn (by omega), lk, lb, if_neg (by rw [zn_lt (by omega) (by omega)]; exact c1), ck_zn (by omega) (by omega), ck_zn (by omega) (by omega), if_neg (by rw [zn_eq (by omega) (by omega)]; exact c2), lt_u, zn_addl])
              rfl
      · rw [if_neg (fun w => hn w.2)]
        refine ⟨M3, f.tr f3, ?_⟩
        (rw [m_shortest_L39, h2.nw, if_neg (by rw [zn_le (by omega) (by omega)]; omega), bde (ms_means h2 hk m), if_pos hm]; (try simp only [jn_u]); rw [if_neg (by decide), bde e3, if_neg hn, lt_u, zn_addl])
    · rw [if_neg (fun w => hm w.1)]
      refine ⟨M2, f, ?_⟩
      (rw [m_shortest_L39, h2.nw, if_neg (by rw [zn_le (by omega) (by omega)]; omega), bde (ms_means h2 hk m), if_neg hm]; (try simp only [jn_u]); rw [if_pos (by trivial), lt_u, zn_addl])
  · have h2 := h.fa f
    refine ⟨M2, ?_, f⟩
    show m_shortest_L39 m st n Kc (nn + 1) _ (zn C.nw) M2 = _
    rw [m_shortest_L39, h2.nw, if_pos (Int32.le_refl _)]
theorem xq_shortN {m s n : Nat} (hm : m ≤ 9) (hs : s < C.ns) (hn : n ≤ 9999) (hb : shB C (A 12) (zn m) (zn s) (zn n) C.nw = none) : QX C A l l (-2) (x_shortest (zn m) (zn s) (zn n)) := by
  intro M h ha _ hl
  unfold x_shortest
  rw [bde (xt_9 hm M), if_neg (by decide), bde (xt_stat h hs), if_neg (by decide), bde (xt_9999 hn M), if_neg (by decide)]
  obtain ⟨M1, e1, f1⟩ := xs_shLoop h (zn m) (zn s) (zn n) (fun (v13 : Int32) (M11 : PM) => if 0 ≤ v13 then (lt (M11.si 20 67 0) fun M12 => ck v13 10 <| bd (x_tells (Int32.toInt64 (M12.i 32 (ix v13))) M12) fun _ M13 => bd (x_tollNow v13 (zn s) M13) fun v14 M14 => bd (x_tells (Int32.toInt64 v14) M14) fun _ M15 => some (v13, M15)) else (some ((-2), M11)))
  rw [hx12 ha, hb] at e1
  exact ⟨M1, e1.trans rfl, f1.x, hl.fa f1⟩
theorem xq_short {m s n b : Nat} (hm : m ≤ 9) (hs : s < C.ns) (hn : n ≤ 9999) (hbw : b < C.nw) (hb : shB C (A 12) (zn m) (zn s) (zn n) C.nw = some b) : QX C A l [(zn (C.len b)).toInt64, (tol C b (zn s) (A 12)).toInt64] (zn b) (x_shortest (zn m) (zn s) (zn n)) := by
  intro M h ha _ hl
  have b1 := h.ok.nw10
  unfold x_shortest
  rw [bde (xt_9 hm M), if_neg (by decide), bde (xt_stat h hs), if_neg (by decide), bde (xt_9999 hn M), if_neg (by decide)]
  obtain ⟨M1, e1, f1⟩ := xs_shLoop h (zn m) (zn s) (zn n) (fun (v13 : Int32) (M11 : PM) => if 0 ≤ v13 then (lt (M11.si 20 67 0) fun M12 => ck v13 10 <| bd (x_tells (Int32.toInt64 (M12.i 32 (ix v13))) M12) fun _ M13 => bd (x_tollNow v13 (zn s) M13) fun v14 M14 => bd (x_tells (Int32.toInt64 v14) M14) fun _ M15 => some (v13, M15)) else (some ((-2), M11)))
  rw [hx12 ha, hb, show e2o (some b) = zn b from rfl] at e1
  have h1 := (h.fx f1.x).fx (f67 (M := M1))
  have el : (M1.si 20 67 0).i 32 b = zn (C.len b) := h1.len b hbw
  obtain ⟨M2, e2, f2, l2⟩ := xs_tell0 M1 ((zn (C.len b)).toInt64)
  have h2 := (h.fx f1.x).fx f2.wx
  have a2 := (ha.fx f1.x).fx f2.wx
  obtain ⟨M3, e3, f3⟩ := xs_tollNow h2 hbw (zn s)
  rw [hx12 a2] at e3
  obtain ⟨M4, e4, f4, l4⟩ := xs_tell1 (l2.fa f3) ((tol C b (zn s) (A 12)).toInt64)
  refine ⟨M4, ?_, ((f1.x.tr f2.wx).tr f3.x).tr f4.wx, l4⟩
  refine e1.trans ?_
  show (if (0 : Int32) ≤ zn b then _ else _) = _
  rw [if_pos (zn_nonneg (by omega)), lt_u]
  show ck (zn b) 10 _ = _
  rw [ck_zn (by omega) (by omega), ix_zn (by omega), el, bde e2]
  show bd (x_tollNow (zn b) (zn s) M2) _ = _
  rw [bde e3, bde e4]
theorem yq_shortN {m s n : Nat} (hm : m ≤ 9) (hs : s < C.ns) (hn : n ≤ 9999) (hb : shB C (A 12) (zn m) (zn s) (zn n) C.nw = none) : QY C A l l (-2) (m_shortest (zn m) (zn s) (zn n)) := by
  intro M h ha _ hl
  have h' := h.fy (f13 (M := M))
  have ha' := ha.fy (f13 (M := M))
  unfold m_shortest
  rw [lt_u, bde (mt_mean hm _), if_neg (by decide), bde (mt_stat h' hs), if_neg (by decide), bde (mt_9999 hn _), if_neg (by decide)]
  obtain ⟨M1, e1, f1⟩ := ms_shLoop h' (zn m) (zn s) (zn n) (fun (v12 : Int32) (M12 : PM) => if v12 = (-1) then (some ((-2), M12)) else (lt (M12.si 72 12 0) fun M13 => ck v12 10 <| bd (m_tell (Int32.toInt64 (M13.i 75 (ix v12))) M13) fun _ M14 => bd (m_tollNow v12 (zn s) M14) fun v13 M15 => bd (m_tell (Int32.toInt64 v13) M15) fun _ M16 => some (v12, M16)))
  rw [hy12 ha', hb] at e1
  exact ⟨M1, e1.trans rfl, f13.tr f1.y, (ly13 hl).fa f1⟩
theorem yq_short {m s n b : Nat} (hm : m ≤ 9) (hs : s < C.ns) (hn : n ≤ 9999) (hbw : b < C.nw) (hb : shB C (A 12) (zn m) (zn s) (zn n) C.nw = some b) : QY C A l [(zn (C.len b)).toInt64, (tol C b (zn s) (A 12)).toInt64] (zn b) (m_shortest (zn m) (zn s) (zn n)) := by
  intro M h ha _ hl
  have b1 := h.ok.nw10
  have h' := h.fy (f13 (M := M))
  have ha' := ha.fy (f13 (M := M))
  unfold m_shortest
  rw [lt_u, bde (mt_mean hm _), if_neg (by decide), bde (mt_stat h' hs), if_neg (by decide), bde (mt_9999 hn _), if_neg (by decide)]
  obtain ⟨M1, e1, f1⟩ := ms_shLoop h' (zn m) (zn s) (zn n) (fun (v12 : Int32) (M12 : PM) => if v12 = (-1) then (some ((-2), M12)) else (lt (M12.si 72 12 0) fun M13 => ck v12 10 <| bd (m_tell (Int32.toInt64 (M13.i 75 (ix v12))) M13) fun _ M14 => bd (m_tollNow v12 (zn s) M14) fun v13 M15 => bd (m_tell (Int32.toInt64 v13) M15) fun _ M16 => some (v12, M16)))
  rw [hy12 ha', hb, show e1o (some b) = zn b from rfl] at e1
  have h1 := (h'.fa f1).fy (f12 (M := M1))
  have el : (M1.si 72 12 0).i 75 b = zn (C.len b) := h1.len b hbw
  obtain ⟨M2, e2, f2, l2⟩ := ms_tell0 M1 ((zn (C.len b)).toInt64)
  have h2 := (h'.fa f1).fy f2.wy
  have a2 := (ha'.fa f1).fy f2.wy
  obtain ⟨M3, e3, f3⟩ := ms_tollNow h2 hbw (zn s)
  rw [hy12 a2] at e3
  obtain ⟨M4, e4, f4, l4⟩ := ms_tell1 (l2.fa f3) ((tol C b (zn s) (A 12)).toInt64)
  refine ⟨M4, ?_, (((f13.tr f1.y).tr f2.wy).tr f3.y).tr f4.wy, l4⟩
  refine e1.trans ?_
  show (if zn b = (-1 : Int32) then _ else _) = _
  rw [if_neg (by rw [zn_eq_m (by omega)]; exact id), lt_u]
  show ck (zn b) 10 _ = _
  rw [ck_zn (by omega) (by omega), ix_zn (by omega), el, bde e2]
  show bd (m_tollNow (zn b) (zn s) M2) _ = _
  rw [bde e3, bde e4]
theorem call_shortest (p q r : Int32) : Call (x_shortest p q r) (m_shortest p q r) := by
  refine Call.of (fun C A l hC hA hl => ?_)
  have b1 := hC.nw10
  have b2 := hC.ns6
  have bad : (∀ M, CX C M → x_shortest p q r M = some (-1, M)) → (∀ M, CY 83 C M → m_shortest p q r M = some (-1, M.si 72 13 0)) → ∃ v l', l'.length ≤ 15 ∧ QX C A l l' v (x_shortest p q r) ∧ QY C A l l' v (m_shortest p q r) := fun h1 h2 =>
    ⟨-1, l, hl, fun M h ha _ hx => ⟨M, h1 M h, Fq.rf, hx⟩, fun M h ha _ hx => ⟨M.si 72 13 0, h2 M h, f13, ly13 hx⟩⟩
  rcases dl_or (n := 9) (by omega) p with ⟨m, hm, rfl⟩ | hn
  case inr =>
    refine bad (fun M h => ?_) (fun M h => ?_)
    · unfold x_shortest
      rw [bde (xn_9 hn M), if_pos rfl]
    · unfold m_shortest
      rw [lt_u, bde (mn_mean hn _), if_pos rfl]
  rcases dm_or (show C.ns < 2147483648 by omega) q with ⟨s, hs, rfl⟩ | hn
  case inr =>
    refine bad (fun M h => ?_) (fun M h => ?_)
    · unfold x_shortest
      rw [bde (xt_9 hm M), if_neg (by decide), bde (xn_stat h hn), if_pos rfl]
    · unfold m_shortest
      rw [lt_u, bde (mt_mean hm _), if_neg (by decide), bde (mn_stat (h.fy f13) hn), if_pos rfl]
  rcases dl_or (n := 9999) (by omega) r with ⟨n, hn9, rfl⟩ | hn
  case inr =>
    refine bad (fun M h => ?_) (fun M h => ?_)
    · unfold x_shortest
      rw [bde (xt_9 hm M), if_neg (by decide), bde (xt_stat h hs), if_neg (by decide), bde (xn_9999 hn M), if_pos rfl]
    · unfold m_shortest
      rw [lt_u, bde (mt_mean hm _), if_neg (by decide), bde (mt_stat (h.fy f13) hs), if_neg (by decide), bde (mn_9999 hn _), if_pos rfl]
  rcases hq : shB C (A 12) (zn m) (zn s) (zn n) C.nw with _ | b
  · exact ⟨_, _, hl, xq_shortN hm hs hn9 hq, yq_shortN hm hs hn9 hq⟩
  · have hb := shB_lt _ _ _ _ _ _ _ hq
    exact ⟨_, _, two15 _ _, xq_short hm hs hn9 hb hq, yq_short hm hs hn9 hb hq⟩
end
