set_option maxRecDepth 100000
/-! CODE -/
def hsb (s w : Nat) : Bool := decide (((zn s >>> (zn w &&& 31)) &&& 1) = 1)
theorem xh_b (s w : Nat) (M : PM) : x_has (zn s) (zn w) M = some (bo (hsb s w), M) := by
  rw [xs_has]
  unfold hsb bo
  by_cases h : ((zn s >>> (zn w &&& 31)) &&& 1) = 1
  · rw [if_pos h, if_pos (by rw [decide_eq_true_eq]; exact h)]
  · rw [if_neg h, if_neg (by rw [decide_eq_true_eq]; exact h)]
theorem mh_b (s w : Nat) (M : PM) : m_has (zn s) (zn w) M = some (bo (hsb s w), M) := by
  rw [ms_has]
  unfold hsb bo
  by_cases h : ((zn s >>> (zn w &&& 31)) &&& 1) = 1
  · rw [if_pos h, if_pos (by rw [decide_eq_true_eq]; exact h)]
  · rw [if_neg h, if_neg (by rw [decide_eq_true_eq]; exact h)]
def okb (C : SV) (set n a b : Nat) : Bool := !(hsb set a && (hsb set b && decide (edd C a b false < zn n)))
theorem okb_sym (C : SV) (set n a b : Nat) : okb C set n a b = okb C set n b a := by
  unfold okb
  rw [edd_sym C a b, ← Bool.and_assoc, ← Bool.and_assoc, Bool.and_comm (hsb set a)]
def apI (C : SV) (set n a k : Nat) (b0 : Bool) : Bool := itr (fun j s => s && okb C set n a (a + 1 + j)) k b0
def apO (C : SV) (set n k : Nat) : Bool := itr (fun a s => apI C set n a (C.nw - (a + 1)) s) k true
theorem apI_iff (C : SV) (set n a : Nat) (b0 : Bool) : ∀ k, apI C set n a k b0 = true ↔ b0 = true ∧ ∀ j, j < k → okb C set n a (a + 1 + j) = true := by
  intro k
  induction k with
  | zero => exact ⟨fun h => ⟨h, fun j q => absurd q (Nat.not_lt_zero j)⟩, fun h => h.1⟩
  | succ k ih =>
    show (apI C set n a k b0 && okb C set n a (a + 1 + k)) = true ↔ _
    rw [Bool.and_eq_true, ih]
    constructor
    · rintro ⟨⟨h1, h2⟩, h3⟩
      refine ⟨h1, fun j hj => ?_⟩
      rcases Nat.lt_or_eq_of_le (Nat.le_of_lt_succ hj) with q | q
      · exact h2 j q
      · rw [q]; exact h3
    · rintro ⟨h1, h2⟩
      exact ⟨⟨h1, fun j hj => h2 j (by omega)⟩, h2 k (by omega)⟩
theorem apO_iff (C : SV) (set n : Nat) : ∀ k, apO C set n k = true ↔ ∀ a, a < k → ∀ b, a < b → b < C.nw → okb C set n a b = true := by
  intro k
  induction k with
  | zero => exact ⟨fun _ a q => absurd q (Nat.not_lt_zero a), fun _ => rfl⟩
  | succ k ih =>
    show apI C set n k (C.nw - (k + 1)) (apO C set n k) = true ↔ _
    rw [apI_iff, ih]
    constructor
    · rintro ⟨h1, h2⟩ a ha b hb hw
      rcases Nat.lt_or_eq_of_le (Nat.le_of_lt_succ ha) with q | q
      · exact h1 a q b hb hw
      · have := h2 (b - (k + 1)) (by omega)
        rw [show k + 1 + (b - (k + 1)) = b by omega] at this
        rw [q]; exact this
    · intro h
      exact ⟨fun a ha b hb hw => h a (by omega) b hb hw, fun j hj => h k (by omega) _ (by omega) (by omega)⟩
def bcn (v : Int32) : Int32 := match jl_bitCount v PM0 with
  | some p => p.1
  | none => 0
theorem bc_M (v : Int32) (M : PM) : jl_bitCount v M = some (bcn v, M) := rfl
theorem sh2 : ∀ n, n < 11 → (1 : Int32) <<< (zn n &&& 31) = zn (2 ^ n) := by decide +kernel
theorem p2_le {n : Nat} (h : n ≤ 10) : 2 ^ n ≤ 1024 ∧ 1 ≤ 2 ^ n := ⟨Nat.pow_le_pow_right (by omega) h, Nat.one_le_pow _ _ (by omega)⟩
def tals (C : SV) (hr : Int32) (set k : Nat) : Int32 := itr (fun w s => s + (if hsb set w = true then tol C w 0 hr else 0)) k 0
def cdB (C : SV) (hr : Int32) (n k : Nat) : Nat := itr (fun j s => if bcn (zn (j + 1)) - bcn (zn s) < 0 ∨ apO C (j + 1) n C.nw = false then s else if 0 < bcn (zn (j + 1)) - bcn (zn s) ∨ tals C hr (j + 1) C.nw < tals C hr s C.nw then j + 1 else s) k 0
theorem cdB_s (C : SV) (hr : Int32) (n k : Nat) : cdB C hr n (k + 1) = if bcn (zn (k + 1)) - bcn (zn (cdB C hr n k)) < 0 ∨ apO C (k + 1) n C.nw = false then cdB C hr n k else if 0 < bcn (zn (k + 1)) - bcn (zn (cdB C hr n k)) ∨ tals C hr (k + 1) C.nw < tals C hr (cdB C hr n k) C.nw then k + 1 else cdB C hr n k := rfl
/-- how far words are apart, in the table -/
def TB (C : SV) (M : PM) : Prop := ∀ a b, a < b → b < C.nw → M.i 64 (10 * a + b) = edd C a b false
section
variable {C : SV} {A : Nat → Int32} {M M1 : PM} {l : List Int64}
theorem TB.fa (h : TB C M) (f : Fq ca M M1) : TB C M1 := fun a b q1 q2 => by
  rw [f.i _ _ (by unfold ca; omega)]; exact h a b q1 q2
theorem zn_10 (i j : Nat) : (10 : Int32) * zn i + zn j = zn (10 * i + j) := by rw [zn_mull, zn_add]
theorem xs_apIn (h : CX C M) (ht : TB C M) (set n : Nat) {a : Nat} (ha : a < C.nw) (b0 : Bool) (Kc : Int32 → PM → Option (Int32 × PM)) : x_areApart_L20 (zn set) (zn n) (zn a) Kc FU (bo b0) (zn (a + 1)) M = Kc (bo (apI C set n a (C.nw - (a + 1)) b0)) M := by
  have b1 := h.ok.nw10
  refine nlp (fun nn k s => x_areApart_L20 (zn set) (zn n) (zn a) Kc nn (bo s) (zn (a + 1 + k)) M) (C.nw - (a + 1)) FU (FU_lt (by omega)) (fun j s => s && okb C set n a (a + 1 + j)) b0 _ (fun nn k hk => ?_) (fun nn => ?_)
  · show x_areApart_L20 (zn set) (zn n) (zn a) Kc (nn + 1) (bo (apI C set n a k b0)) (zn (a + 1 + k)) M = x_areApart_L20 (zn set) (zn n) (zn a) Kc nn (bo (apI C set n a k b0 && okb C set n a (a + 1 + k))) (zn (a + 1 + (k + 1))) M
    generalize apI C set n a k b0 = s
    have hv := ht a (a + 1 + k) (by omega) (by omega)
    have ez : zn (a + 1 + k) + 1 = zn (a + 1 + (k + 1)) := zn_addl (a + 1 + k) 1
    (rw [x_areApart_L20, h.nw, if_neg (by rw [zn_le (by omega) (by omega)]; omega)]; (try simp only [jn_u]))
    unfold okb
    cases s with
    | false => rw [if_pos (by decide), lt_u, ez]; rfl
    | true =>
      rw [if_neg (by decide), bde (xh_b _ _ _)]
      cases h1 : hsb set a with
      | false => rw [if_pos (by decide), lt_u, ez]; rfl
      | true =>
        rw [if_neg (by decide), bde (xh_b _ _ _)]
        cases h2 : hsb set (a + 1 + k) with
        | false => rw [if_pos (by decide), lt_u, ez]; rfl
        | true =>
          rw [if_neg (by decide), zn_10, ck_zn (by omega) (by omega), ix_zn (by omega), hv]
          by_cases g : edd C a (a + 1 + k) false < zn n
          · rw [if_pos g, lt_u, ez, decide_eq_true g]; rfl
          · rw [if_neg g, lt_u, ez, decide_eq_false g]; rfl
  · show x_areApart_L20 (zn set) (zn n) (zn a) Kc (nn + 1) _ (zn (a + 1 + (C.nw - (a + 1)))) M = _
    rw [x_areApart_L20, h.nw, if_pos (by rw [zn_le (by omega) (by omega)]; omega)]
    rfl
theorem xs_areApart (h : CX C M) (ht : TB C M) (set n : Nat) : x_areApart (zn set) (zn n) M = some (bo (apO C set n C.nw), M) := by
  have b1 := h.ok.nw10
  unfold x_areApart
  refine nlp (fun nn k s => x_areApart_L5 (zn set) (zn n) nn (bo s) (zn k) M) C.nw FU (FU_lt (by omega)) (fun a s => apI C set n a (C.nw - (a + 1)) s) true _ (fun nn k hk => ?_) (fun nn => ?_)
  · show x_areApart_L5 (zn set) (zn n) (nn + 1) (bo (apO C set n k)) (zn k) M = x_areApart_L5 (zn set) (zn n) nn (bo (apI C set n k (C.nw - (k + 1)) (apO C set n k))) (zn (k + 1)) M
    rw [x_areApart_L5, h.nw, if_neg (by rw [zn_le (by omega) (by omega)]; omega), lt_u, zn_addl, xs_apIn h ht set n hk, lt_u]
  · show x_areApart_L5 (zn set) (zn n) (nn + 1) (bo (apO C set n C.nw)) (zn C.nw) M = _
    rw [x_areApart_L5, h.nw, if_pos (Int32.le_refl _), ckb_t]
    cases apO C set n C.nw
    · exact Or.inl rfl
    · exact Or.inr rfl
theorem ms_apIn (set n : Nat) {a : Nat} (ha : a < C.nw) (Kc : PM → Option (Int32 × PM)) : ∀ d k nn, k + d = a → d < nn → ∀ M, CY 83 C M → ∃ M', Fq ca M M' ∧ (((∀ b, k ≤ b → b < a → okb C set n a b = true) ∧ m_areApart_L13 (zn set) (zn n) (zn a) Kc nn (zn k) M = Kc M') ∨ ((¬ ∀ b, k ≤ b → b < a → okb C set n a b = true) ∧ m_areApart_L13 (zn set) (zn n) (zn a) Kc nn (zn k) M = some (0, M'))) := by
  intro d
  induction d with
  | zero =>
    intro k nn hk hn M h
    have b1 := h.ok.nw10
    obtain ⟨nn, rfl⟩ : ∃ r, nn = r + 1 := ⟨nn - 1, by omega⟩
    refine ⟨M, Fq.rf, Or.inl ⟨fun b q1 q2 => absurd q1 (by omega), ?_⟩⟩
    rw [m_areApart_L13, if_pos (by rw [zn_le (by omega) (by omega)]; omega)]
  | succ d ih =>
    intro k nn hk hn M h
    have b1 := h.ok.nw10
    obtain ⟨nn, rfl⟩ : ∃ r, nn = r + 1 := ⟨nn - 1, by omega⟩
    have go : ∀ M2, CY 83 C M2 → Fq ca M M2 → okb C set n a k = true → m_areApart_L13 (zn set) (zn n) (zn a) Kc (nn + 1) (zn k) M = m_areApart_L13 (zn set) (zn n) (zn a) Kc nn (zn (k + 1)) M2 → ∃ M', Fq ca M M' ∧ (((∀ b, k ≤ b → b < a → okb C set n a b = true) ∧ m_areApart_L13 (zn set) (zn n) (zn a) Kc (nn + 1) (zn k) M = Kc M') ∨ ((¬ ∀ b, k ≤ b → b < a → okb C set n a b = true) ∧ m_areApart_L13 (zn set) (zn n) (zn a) Kc (nn + 1) (zn k) M = some (0, M'))) := by
      intro M2 y2 f2 ho he
      obtain ⟨M', f', q⟩ := ih (k + 1) nn (by omega) (by omega) M2 y2
      rw [he]
      refine ⟨M', f2.tr f', ?_⟩
      rcases q with ⟨q1, q2⟩ | ⟨q1, q2⟩
      · refine Or.inl ⟨fun b w1 w2 => ?_, q2⟩
        rcases Nat.lt_or_eq_of_le w1 with w | w
        · exact q1 b w w2
        · rw [← w]; exact ho
      · exact Or.inr ⟨fun w => q1 (fun b w1 w2 => w b (by omega) w2), q2⟩
    have hun : m_areApart_L13 (zn set) (zn n) (zn a) Kc (nn + 1) (zn k) M = (bd (m_has (zn set) (zn a) M) fun v3 M3 => jn (fun (M4 : PM) => lt (zn k + 1) fun v4 => m_areApart_L13 (zn set) (zn n) (zn a) Kc nn v4 M4) fun j1 => if v3 = 0 then (j1 M3) else (bd (m_has (zn set) (zn k) M3) fun v5 M5 => if v5 = 0 then (j1 M5) else (bd (m_differBy (zn a) (zn k) 0 M5) fun v6 M6 => if zn n ≤ v6 then (j1 M6) else (some (0, M6))))) := by
      rw [m_areApart_L13, if_neg (by rw [zn_le (by omega) (by omega)]; omega)]
    (rw [bde (mh_b _ _ _)] at hun; (try simp only [jn_u] at hun))
    cases h1 : hsb set a with
    | false =>
      rw [h1, if_pos (by decide), lt_u, zn_addl] at hun
      refine go M h Fq.rf ?_ hun
      unfold okb
      rw [h1]; rfl
    | true =>
      rw [h1, if_neg (by decide), bde (mh_b _ _ _)] at hun
      cases h2 : hsb set k with
      | false =>
        rw [h2, if_pos (by decide), lt_u, zn_addl] at hun
        refine go M h Fq.rf ?_ hun
        unfold okb
        rw [h1, h2]; rfl
      | true =>
        obtain ⟨M2, e2, f2⟩ := ms_differBy h ha (show k < C.nw by omega) false
        have e2' : m_differBy (zn a) (zn k) 0 M = _ := e2
        rw [h2, if_neg (by decide), bde e2'] at hun
        by_cases g : zn n ≤ edd C a k false
        · rw [if_pos g, lt_u, zn_addl] at hun
          refine go M2 (h.fa f2) f2 ?_ hun
          unfold okb
          rw [h1, h2, decide_eq_false (Int32.not_lt.mpr g)]; rfl
        · rw [if_neg g] at hun
          refine ⟨M2, f2, Or.inr ⟨fun w => ?_, hun⟩⟩
          have := w k (Nat.le_refl _) (by omega)
          unfold okb at this
          rw [h1, h2, decide_eq_true (Int32.not_le.mp g)] at this
          exact absurd this (by decide)
theorem ms_apOut (set n : Nat) : ∀ d k nn, k + d = C.nw → d < nn → ∀ M, CY 83 C M → ∃ M', Fq ca M M' ∧ (((∀ a, k ≤ a → a < C.nw → ∀ b, b < a → okb C set n a b = true) ∧ m_areApart_L2 (zn set) (zn n) nn (zn k) M = some (1, M')) ∨ ((¬ ∀ a, k ≤ a → a < C.nw → ∀ b, b < a → okb C set n a b = true) ∧ m_areApart_L2 (zn set) (zn n) nn (zn k) M = some (0, M'))) := by
  intro d
  induction d with
  | zero =>
    intro k nn hk hn M h
    have b1 := h.ok.nw10
    obtain ⟨nn, rfl⟩ : ∃ r, nn = r + 1 := ⟨nn - 1, by omega⟩
    refine ⟨M, Fq.rf, Or.inl ⟨fun b q1 q2 => absurd q1 (by omega), ?_⟩⟩
    rw [m_areApart_L2, h.nw, if_pos (by rw [zn_le (by omega) (by omega)]; omega)]
  | succ d ih =>
    intro k nn hk hn M h
    have b1 := h.ok.nw10
    obtain ⟨nn, rfl⟩ : ∃ r, nn = r + 1 := ⟨nn - 1, by omega⟩
    obtain ⟨M2, f2, q⟩ := ms_apIn (C := C) set n (show k < C.nw by omega) (fun (M7 : PM) => lt (zn k + 1) fun v7 => m_areApart_L2 (zn set) (zn n) nn v7 M7) k 0 FU (by omega) (FU_lt (by omega)) M h
    have hun : m_areApart_L2 (zn set) (zn n) (nn + 1) (zn k) M = m_areApart_L13 (zn set) (zn n) (zn k) (fun (M7 : PM) => lt (zn k + 1) fun v7 => m_areApart_L2 (zn set) (zn n) nn v7 M7) FU (zn 0) M := by
      rw [m_areApart_L2, h.nw, if_neg (by rw [zn_le (by omega) (by omega)]; omega)]
      rfl
    rcases q with ⟨q1, q2⟩ | ⟨q1, q2⟩
    · obtain ⟨M', f', q⟩ := ih (k + 1) nn (by omega) (by omega) M2 (h.fa f2)
      rw [hun, q2, lt_u, zn_addl]
      refine ⟨M', f2.tr f', ?_⟩
      rcases q with ⟨w1, w2⟩ | ⟨w1, w2⟩
      · refine Or.inl ⟨fun a u1 u2 b hb => ?_, w2⟩
        rcases Nat.lt_or_eq_of_le u1 with u | u
        · exact w1 a u u2 b hb
        · subst u; exact q1 b (Nat.zero_le _) hb
      · exact Or.inr ⟨fun u => w1 (fun a u1 u2 b hb => u a (by omega) u2 b hb), w2⟩
    · refine ⟨M2, f2, Or.inr ⟨fun u => q1 (fun b _ hb => u k (Nat.le_refl _) (by omega) b hb), hun.trans q2⟩⟩
theorem ms_areApart (h : CY 83 C M) (set n : Nat) : ∃ M', m_areApart (zn set) (zn n) M = some (bo (apO C set n C.nw), M') ∧ Fq ca M M' := by
  have b1 := h.ok.nw10
  obtain ⟨M', f', q⟩ := ms_apOut (C := C) set n C.nw 0 FU (by omega) (FU_lt (by omega)) M h
  refine ⟨M', ?_, f'⟩
  unfold m_areApart
  rcases q with ⟨q1, q2⟩ | ⟨q1, q2⟩
  · have : apO C set n C.nw = true := (apO_iff C set n C.nw).mpr (fun a ha b hb hw => by rw [okb_sym]; exact q1 b (by omega) hw a hb)
    rw [this]; exact q2
  · have : apO C set n C.nw = false := by
      cases hq : apO C set n C.nw with
      | false => rfl
      | true =>
        exact absurd (fun a _ ha b hb => by rw [okb_sym]; exact (apO_iff C set n C.nw).mp hq b (by omega) a hb ha) q1
    rw [this]; exact q2
theorem xs_tals (h : CX C M) (set : Nat) : ∃ M', x_tollOfAll (zn set) M = some (tals C (M.i 21 4) set C.nw, M') ∧ Fq ca M M' := by
  have b1 := h.ok.nw10
  obtain ⟨hr, ehr⟩ : ∃ hr, hr = M.i 21 4 := ⟨_, rfl⟩
  rw [← ehr]
  unfold x_tollOfAll
  refine wlp (fun nn k (_ : Unit) M2 => x_tollOfAll_L4 (zn set) nn (tals C hr set k) (zn k) M2) C.nw FU (FU_lt (by omega)) (fun _ s => s) () (fun _ M2 => Fq ca M M2) (fun o => ∃ M', o = some (tals C hr set C.nw, M') ∧ Fq ca M M') (fun nn k M2 hk f => ?_) (fun nn M2 f => ?_) M Fq.rf
  · have h2 := h.fa f
    show ∃ M', _ ∧ x_tollOfAll_L4 (zn set) (nn + 1) (tals C hr set k) (zn k) M2 = x_tollOfAll_L4 (zn set) nn (tals C hr set k + (if hsb set k = true then tol C k 0 hr else 0)) (zn (k + 1)) M'
    cases h1 : hsb set k with
    | false =>
      refine ⟨M2, f, ?_⟩
      (rw [x_tollOfAll_L4, h2.nw, if_neg (by rw [zn_le (by omega) (by omega)]; omega), bde (xh_b _ _ _), h1]; (try simp only [jn_u]); rw [if_pos (by decide), lt_u, lt_u, zn_addl, if_neg (by decide)])
    | true =>
      obtain ⟨M3, e3, f3⟩ := xs_tollNow h2 hk 0
      rw [hr_ca f, ← ehr] at e3
      refine ⟨M3, f.tr f3, ?_⟩
      (rw [x_tollOfAll_L4, h2.nw, if_neg (by rw [zn_le (by omega) (by omega)]; omega), bde (xh_b _ _ _), h1]; (try simp only [jn_u]); rw [if_neg (by decide), bde e3, lt_u, lt_u, zn_addl, if_pos (by trivial)])
  · have h2 := h.fa f
    refine ⟨M2, ?_, f⟩
    show x_tollOfAll_L4 (zn set) (nn + 1) _ (zn C.nw) M2 = _
    rw [x_tollOfAll_L4, h2.nw, if_pos (Int32.le_refl _)]
theorem ms_tals (h : CY 83 C M) (set : Nat) : ∃ M', m_tollsOf (zn set) 0 M = some (tals C (M.i 73 12) set C.nw, M') ∧ Fq ca M M' := by
  have b1 := h.ok.nw10
  obtain ⟨hr, ehr⟩ : ∃ hr, hr = M.i 73 12 := ⟨_, rfl⟩
  rw [← ehr]
  unfold m_tollsOf
  refine wlp (fun nn k (_ : Unit) M2 => m_tollsOf_L5 (zn set) 0 nn (tals C hr set k) (zn k) M2) C.nw FU (FU_lt (by omega)) (fun _ s => s) () (fun _ M2 => Fq ca M M2) (fun o => ∃ M', o = some (tals C hr set C.nw, M') ∧ Fq ca M M') (fun nn k M2 hk f => ?_) (fun nn M2 f => ?_) M Fq.rf
  · have h2 := h.fa f
    show ∃ M', _ ∧ m_tollsOf_L5 (zn set) 0 (nn + 1) (tals C hr set k) (zn k) M2 = m_tollsOf_L5 (zn set) 0 nn (tals C hr set k + (if hsb set k = true then tol C k 0 hr else 0)) (zn (k + 1)) M'
    cases h1 : hsb set k with
    | false =>
      refine ⟨M2, f, ?_⟩
      (rw [m_tollsOf_L5, h2.nw, if_neg (by rw [zn_le (by omega) (by omega)]; omega), bde (mh_b _ _ _), h1]; (try simp only [jn_u]); rw [if_pos (by decide), lt_u, lt_u, zn_addl, if_neg (by decide)])
    | true =>
      obtain ⟨M3, e3, f3⟩ := ms_tollNow h2 hk 0
      rw [hy_ca f 12, ← ehr] at e3
      refine ⟨M3, f.tr f3, ?_⟩
      (rw [m_tollsOf_L5, h2.nw, if_neg (by rw [zn_le (by omega) (by omega)]; omega), bde (mh_b _ _ _), h1]; (try simp only [jn_u]); rw [if_neg (by decide), bde e3, lt_u, lt_u, zn_addl, if_pos (by trivial)])
  · have h2 := h.fa f
    refine ⟨M2, ?_, f⟩
    show m_tollsOf_L5 (zn set) 0 (nn + 1) _ (zn C.nw) M2 = _
    rw [m_tollsOf_L5, h2.nw, if_pos (Int32.le_refl _)]
end
