set_option maxRecDepth 100000
/-! SAID: the system goes through the ways of one length -/
def zzb (L : Nat → Int32) : Bool := decide (zzS L 5 = 1)
abbrev tkS (C : SV) (L : Nat → Int32) (w : Nat) : Nat → Int32 := takS C L w 1
theorem oft_b {C : SV} (hC : OKC C) {w : Nat} (hw : w < C.nw) (v : Int32) : ∃ m, m ≤ 6 ∧ oft C w v = zn m := by
  have h : ∃ n, n ≤ C.len w ∧ oft C w v = zn n := by
    unfold oft
    refine itr_inv (fun k s => ∃ n, n ≤ k ∧ s = zn n) ⟨0, by omega, rfl⟩ (fun j _ a ⟨n, h1, h2⟩ => ?_)
    subst h2
    split
    · exact ⟨n + 1, by omega, by rw [show (1 : Int32) = zn 1 from rfl, zn_add]⟩
    · exact ⟨n, by omega, by rw [show (0 : Int32) = zn 0 from rfl, zn_add]; rfl⟩
  obtain ⟨n, h1, h2⟩ := h
  have := hC.len6 w hw
  exact ⟨n, by omega, h2⟩
theorem tk_back (C : SV) (L : Nat → Int32) (w : Nat) : takS C (tkS C L w) w (-1) = L := by
  funext v
  show L v - 1 * oft C w (zn v) - (-1) * oft C w (zn v) = L v
  rw [Int32.one_mul, Int32.neg_mul, Int32.one_mul, Int32.sub_neg, Int32.sub_add_cancel]
/-- of d words more nothing runs over -/
def okL (d : Nat) (L : Nat → Int32) : Prop := ∀ v, v < 5 → -1000000 + 6 * (d : Int) ≤ (L v).toInt
def ngS (d : Nat) (L : Nat → Int32) : Prop := okL d L ∧ ∃ v, v < 5 ∧ (L v).toInt < 0
theorem tk_int {C : SV} (hC : OKC C) {w : Nat} (hw : w < C.nw) {d : Nat} {L : Nat → Int32} (h : okL (d + 1) L) {v : Nat} (hv : v < 5) : (L v).toInt - 6 ≤ (tkS C L w v).toInt ∧ (tkS C L w v).toInt ≤ (L v).toInt := by
  obtain ⟨m, hm, e⟩ := oft_b hC hw (zn v)
  have h1 := h v hv
  have h2 := (L v).toInt_lt
  show (L v).toInt - 6 ≤ (L v - 1 * oft C w (zn v)).toInt ∧ (L v - 1 * oft C w (zn v)).toInt ≤ (L v).toInt
  have e2 : (L v - 1 * oft C w (zn v)).toInt = (L v).toInt - m := by
    rw [Int32.one_mul, e, Int32.toInt_sub, zn_int (by omega)]
    apply Int.bmod_eq_of_le <;> omega
  rw [e2]
  omega
theorem okL.tk {C : SV} (hC : OKC C) {w : Nat} (hw : w < C.nw) {d : Nat} {L : Nat → Int32} (h : okL (d + 1) L) : okL d (tkS C L w) := by
  intro v hv
  have h1 := tk_int hC hw h hv
  have h2 := h v hv
  omega
theorem ngS.tk {C : SV} (hC : OKC C) {w : Nat} (hw : w < C.nw) {d : Nat} {L : Nat → Int32} (h : ngS (d + 1) L) : ngS d (tkS C L w) := by
  obtain ⟨h1, v, hv, h2⟩ := h
  have := tk_int hC hw h1 hv
  exact ⟨h1.tk hC hw, v, hv, by omega⟩
theorem ngS.zz {d : Nat} {L : Nat → Int32} (h : ngS d L) : zzb L = false := by
  obtain ⟨-, v, hv, h2⟩ := h
  have h3 : zzS L 5 = 0 := zzS_0 L 5 v hv (fun e => by rw [e] at h2; exact absurd h2 (by decide))
  unfold zzb
  rw [h3]
  decide
theorem nnS_0 {L : Nat → Int32} : ∀ k, nnS L k = 0 → ∃ v, v < k ∧ (L v).toInt < 0 := by
  intro k
  induction k with
  | zero => intro h; exact absurd (show (1 : Int32) = 0 from h) (by decide)
  | succ k ih =>
    intro h
    have h' : (if nnS L k = 0 then (0 : Int32) else if L k < 0 then 0 else 1) = 0 := h
    by_cases g : nnS L k = 0
    · obtain ⟨v, h1, h2⟩ := ih g
      exact ⟨v, by omega, h2⟩
    · rw [if_neg g] at h'
      by_cases g2 : L k < 0
      · exact ⟨k, by omega, by rw [Int32.lt_iff_toInt_lt] at g2; exact g2⟩
      · rw [if_neg g2] at h'
        exact absurd h' (by decide)
/-- the ways so far: how many, the first -/
def SX (acc : List (List Nat)) (M : PM) : Prop := M.i 20 61 = zn acc.length ∧ (acc = [] → M.i 20 62 = 0) ∧ ∀ s, acc.head? = some s → M.i 20 62 = zn s.length ∧ ∀ i, i < s.length → M.i 68 i = zn (s.getD i 0)
abbrev sfX (o j : Nat) : Prop := (o = 20 ∧ (j = 61 ∨ j = 62)) ∨ (66 ≤ o ∧ o ≤ 68)
theorem shR_sfX : ∀ q ∈ shR, ¬ sfX q.1 q.2.1 := by decide +kernel
section
variable {C : SV} {M M1 : PM}
theorem SX.fr {c : Nat → Nat → Prop} {acc : List (List Nat)} (h : SX acc M) (f : Fq c M M1) (h1 : ¬ c 20 61) (h2 : ¬ c 20 62) (h3 : ∀ j, ¬ c 68 j) : SX acc M1 :=
  ⟨by rw [f.i _ _ h1]; exact h.1, fun e => by rw [f.i _ _ h2]; exact h.2.1 e, fun s e => by
    obtain ⟨g1, g2⟩ := h.2.2 s e
    exact ⟨by rw [f.i _ _ h2]; exact g1, fun i hi => by rw [f.i _ _ (h3 i)]; exact g2 i hi⟩⟩
theorem CX.sf (h : CX C M) (f : Fq sfX M M1) : CX C M1 := h.fr f shR_sfX (fun o j q => by unfold sfX; omega)
abbrev solS (C : SV) (d f : Nat) (L : Nat → Int32) : List (List Nat) := solL zzb (tkS C) C.nw d f L
/-- a way is full -/
theorem xs_full {acc : List (List Nat)} {p : List Nat} {L : Nat → Int32} {n f : Nat} (h : CX C M) (hp : p.length ≤ 4) (hL : ∀ v, v < 5 → M.i 66 v = L v) (h67 : ∀ i, i < p.length → M.i 67 i = zn (p.getD i 0)) (hS : SX acc M) (hl : (acc ++ (solS C 0 f L).map (p ++ ·)).length < 1000000) :
    ∃ M', G_x_saysFrom (n + 1) (zn p.length) (zn p.length) (zn f) M = some ((), M') ∧ Fq sfX M M' ∧ (∀ v, v < 5 → M'.i 66 v = L v) ∧ (∀ i, i < p.length → M'.i 67 i = zn (p.getD i 0)) ∧ SX (acc ++ (solS C 0 f L).map (p ++ ·)) M' := by
  have hun : G_x_saysFrom (n + 1) (zn p.length) (zn p.length) (zn f) M = b_x_saysFrom (G_x_saysFrom n) (zn p.length) (zn p.length) (zn f) M := rfl
  rw [hun, b_x_saysFrom, if_pos rfl, bde (xs_isNothingLeft hL)]
  have es : solS C 0 f L = ownL zzb L := rfl
  rw [es] at hl ⊢
  unfold ownL at hl ⊢
  by_cases g : zzS L 5 = 0
  · have g2 : ¬ zzb L = true := by unfold zzb; rw [g]; decide
    rw [if_neg g2] at hl ⊢
    rw [if_pos g, List.map_nil, List.append_nil]
    exact ⟨M, rfl, Fq.rf, hL, h67, hS⟩
  · have g1 : zzS L 5 = 1 := (zzS_01 L 5).resolve_left g
    have g2 : zzb L = true := by unfold zzb; rw [g1]; decide
    rw [if_pos g2] at hl ⊢
    rw [if_neg g, List.map_cons, List.map_nil, List.append_nil]
    rw [List.length_append, List.length_map] at hl
    have hl' : acc.length + 1 < 1000000 := hl
    obtain ⟨s1, s2, s3⟩ := hS
    simp only [jn_u, lt_u]
    cases acc with
    | nil =>
      have e61 : M.i 20 61 = 0 := s1
      obtain ⟨N, hN⟩ : ∃ N, N = M.ci 67 0 68 0 4 := ⟨_, rfl⟩
      have fN : Fq (fun o _ => o = 68) M N := by rw [hN]; exact Fq.ci (c := fun o _ => o = 68) Fq.rf (fun j _ _ => rfl)
      have N68 : ∀ i, i < 4 → N.i 68 i = M.i 67 i := fun i hi => by
        rw [hN, ci_i, if_pos rfl, if_pos ⟨Nat.zero_le _, by omega⟩, Nat.zero_add, Nat.sub_zero]
      have N61 : N.i 20 61 = 0 := (fN.i _ _ (by omega)).trans e61
      rw [if_pos e61, ckc_l (kd67 h.sh) (kd68 h.sh) (by omega) (by omega) (by omega)]
      rw [show ix 0 = 0 from ix_zn (k := 0) (by omega), show ix 4 = 4 from ix_zn (k := 4) (by omega), ← hN, if_pos N61]
      have f2 : Fq sfX N (N.si 20 62 (zn p.length)) := Fq.si (c := sfX) Fq.rf (Or.inl ⟨rfl, Or.inr rfl⟩)
      obtain ⟨N3, hN3⟩ : ∃ N3, N3 = (N.si 20 62 (zn p.length)).si 20 61 (((N.si 20 62 (zn p.length)).i 20 61) + 1) := ⟨_, rfl⟩
      have f3 : Fq (fun o j => o = 20 ∧ (j = 61 ∨ j = 62)) N N3 := by
        rw [hN3]; exact Fq.si (c := fun o j => o = 20 ∧ (j = 61 ∨ j = 62)) (Fq.si (c := fun o j => o = 20 ∧ (j = 61 ∨ j = 62)) Fq.rf ⟨rfl, Or.inr rfl⟩) ⟨rfl, Or.inl rfl⟩
      refine ⟨N3, by rw [hN3], (fN.mo (d := sfX) (fun o j q => Or.inr (by omega))).tr (f3.mo (d := sfX) (fun o j q => Or.inl q)), fun v hv => ?_, fun i hi => ?_, ?_, fun e => absurd e (by simp), fun s e => ?_⟩
      · rw [f3.i _ _ (by omega), fN.i _ _ (by omega)]; exact hL v hv
      · rw [f3.i _ _ (by omega), fN.i _ _ (by omega)]; exact h67 i hi
      · rw [hN3, si_i, if_pos ⟨rfl, rfl⟩, si_i, if_neg (by omega), N61]; rfl
      · have e' : s = p := by
          have : some p = some s := by simpa using e
          exact (Option.some.inj this).symm
        subst e'
        refine ⟨by rw [hN3, si_i, if_neg (by omega), si_i, if_pos ⟨rfl, rfl⟩], fun i hi => ?_⟩
        rw [f3.i _ _ (by omega), N68 i (by omega)]; exact h67 i hi
    | cons a acc =>
      have e61 : ¬ M.i 20 61 = 0 := by
        rw [s1, List.length_cons, zn_eq_l (by rw [List.length_cons] at hl'; omega) (by omega)]; omega
      rw [if_neg e61, if_neg e61]
      obtain ⟨N3, hN3⟩ : ∃ N3, N3 = (M.si 20 62 (M.i 20 62)).si 20 61 (((M.si 20 62 (M.i 20 62)).i 20 61) + 1) := ⟨_, rfl⟩
      have f3 : Fq (fun o j => o = 20 ∧ (j = 61 ∨ j = 62)) M N3 := by
        rw [hN3]; exact Fq.si (c := fun o j => o = 20 ∧ (j = 61 ∨ j = 62)) (Fq.si (c := fun o j => o = 20 ∧ (j = 61 ∨ j = 62)) Fq.rf ⟨rfl, Or.inr rfl⟩) ⟨rfl, Or.inl rfl⟩
      refine ⟨N3, by rw [hN3], f3.mo (d := sfX) (fun o j q => Or.inl q), fun v hv => ?_, fun i hi => ?_, ?_, fun e => absurd e (by simp), fun s e => ?_⟩
      · rw [f3.i _ _ (by omega)]; exact hL v hv
      · rw [f3.i _ _ (by omega)]; exact h67 i hi
      · rw [hN3, si_i, if_pos ⟨rfl, rfl⟩, si_i, if_neg (by omega), s1, zn_addl, List.length_append]; rfl
      · obtain ⟨g3, g4⟩ := s3 s (by simpa using e)
        refine ⟨by rw [hN3, si_i, if_neg (by omega), si_i, if_pos ⟨rfl, rfl⟩]; exact g3, fun i hi => ?_⟩
        rw [f3.i _ _ (by omega)]; exact g4 i hi
theorem xs_sf (hC : OKC C) : ∀ d n f acc (p : List Nat) L M, d < n → p.length + d ≤ 4 → f ≤ C.nw → CX C M → (∀ v, v < 5 → M.i 66 v = L v) → okL d L → (∀ i, i < p.length → M.i 67 i = zn (p.getD i 0)) → SX acc M → (acc ++ (solS C d f L).map (p ++ ·)).length < 1000000 →
    ∃ M', G_x_saysFrom n (zn p.length) (zn (p.length + d)) (zn f) M = some ((), M') ∧ Fq sfX M M' ∧ (∀ v, v < 5 → M'.i 66 v = L v) ∧ (∀ i, i < p.length → M'.i 67 i = zn (p.getD i 0)) ∧ SX (acc ++ (solS C d f L).map (p ++ ·)) M' := by
  have b1 := hC.nw10
  intro d
  induction d with
  | zero =>
    intro n f acc p L M hn hp hf h hL ho h67 hS hl
    obtain ⟨n, rfl⟩ : ∃ m, n = m + 1 := ⟨n - 1, by omega⟩
    exact xs_full h (by omega) hL h67 hS hl
  | succ d ih =>
    intro n f acc p L M hn hp hf h hL ho h67 hS hl
    obtain ⟨n, rfl⟩ : ∃ m, n = m + 1 := ⟨n - 1, by omega⟩
    have hun : G_x_saysFrom (n + 1) (zn p.length) (zn (p.length + (d + 1))) (zn f) M = b_x_saysFrom (G_x_saysFrom n) (zn p.length) (zn (p.length + (d + 1))) (zn f) M := rfl
    rw [hun, b_x_saysFrom, if_neg (by rw [zn_eq (by omega) (by omega)]; omega)]
    have es : solS C (d + 1) f L = lpc (fun w => (solS C d w (tkS C L w)).map (List.cons w)) (C.nw - f) f := rfl
    rw [es] at hl ⊢
    have loop : ∀ j w F acc M, w + j = C.nw → j < F → CX C M → (∀ v, v < 5 → M.i 66 v = L v) → (∀ i, i < p.length → M.i 67 i = zn (p.getD i 0)) → SX acc M → (acc ++ (lpc (fun w => (solS C d w (tkS C L w)).map (List.cons w)) j w).map (p ++ ·)).length < 1000000 →
        ∃ M', b_x_saysFrom_L67 (zn p.length) (zn (p.length + (d + 1))) (G_x_saysFrom n) F (zn w) M = some ((), M') ∧ Fq sfX M M' ∧ (∀ v, v < 5 → M'.i 66 v = L v) ∧ (∀ i, i < p.length → M'.i 67 i = zn (p.getD i 0)) ∧ SX (acc ++ (lpc (fun w => (solS C d w (tkS C L w)).map (List.cons w)) j w).map (p ++ ·)) M' := by
      intro j
      induction j with
      | zero =>
        intro w F acc M hw hF h hL h67 hS hl
        obtain ⟨F, rfl⟩ : ∃ m, F = m + 1 := ⟨F - 1, by omega⟩
        rw [b_x_saysFrom_L67, h.nw, if_pos (by rw [zn_le (by omega) (by omega)]; omega)]
        refine ⟨M, rfl, Fq.rf, hL, h67, ?_⟩
        show SX (acc ++ ([] : List (List Nat)).map (p ++ ·)) M
        rw [List.map_nil, List.append_nil]
        exact hS
      | succ j ihj =>
        intro w F acc M hw hF h hL h67 hS hl
        obtain ⟨F, rfl⟩ : ∃ m, F = m + 1 := ⟨F - 1, by omega⟩
        have hwn : w < C.nw := by omega
        have el : (lpc (fun w => (solS C d w (tkS C L w)).map (List.cons w)) (j + 1) w).map (p ++ ·) = (solS C d w (tkS C L w)).map ((p ++ [w]) ++ ·) ++ (lpc (fun w => (solS C d w (tkS C L w)).map (List.cons w)) j (w + 1)).map (p ++ ·) := by
          show ((solS C d w (tkS C L w)).map (List.cons w) ++ lpc (fun w => (solS C d w (tkS C L w)).map (List.cons w)) j (w + 1)).map (p ++ ·) = _
          rw [List.map_append, List.map_map]
          congr 1
          apply List.map_congr_left
          intro s _
          show p ++ (w :: s) = (p ++ [w]) ++ s
          rw [List.append_assoc]
          rfl
        rw [el, ← List.append_assoc] at hl
        rw [el, ← List.append_assoc]
        have hl1 : (acc ++ (solS C d w (tkS C L w)).map ((p ++ [w]) ++ ·)).length < 1000000 := by
          rw [List.length_append] at hl
          omega
        obtain ⟨N, hN⟩ : ∃ N, N = M.si 67 p.length (zn w) := ⟨_, rfl⟩
        have fN : Fq (fun o j => o = 67 ∧ j = p.length) M N := by rw [hN]; exact Fq.si (c := fun o j => o = 67 ∧ j = p.length) Fq.rf ⟨rfl, rfl⟩
        have fNs : Fq sfX M N := fN.mo (fun o j q => Or.inr (by omega))
        have hNx := h.sf fNs
        obtain ⟨M3, e3, f3, L3⟩ := xs_changesLeft hNx hwn 1 (L := L) (fun v hv => by rw [fN.i _ _ (by omega)]; exact hL v hv)
        have f3s : Fq sfX N M3 := f3.mo (fun o j q => Or.inr (by omega))
        have x3 := hNx.sf f3s
        have S3 : SX acc M3 := (hS.fr fN (by omega) (by omega) (fun j => by omega)).fr f3 (by omega) (by omega) (fun j => by omega)
        have p3 : ∀ i, i < (p ++ [w]).length → M3.i 67 i = zn ((p ++ [w]).getD i 0) := by
          intro i hi
          rw [List.length_append] at hi
          have hi' : i < p.length + 1 := hi
          rw [f3.i _ _ (by omega)]
          by_cases e : i = p.length
          · subst e
            rw [hN, si_i, if_pos ⟨rfl, rfl⟩]
            congr 1
            simp
          · rw [fN.i _ _ (by omega), h67 i (by omega)]
            congr 1
            simp [List.getElem?_append_left (show i < p.length by omega)]
        rw [b_x_saysFrom_L67, h.nw, if_neg (by rw [zn_le (by omega) (by omega)]; omega), ck_zn (by omega) (by omega), ix_zn (by omega), lt_u, ← hN, bde e3]
        have tail : ∀ M6, Fq sfX M M6 → (∀ v, v < 5 → M6.i 66 v = tkS C L w v) → (∀ i, i < p.length → M6.i 67 i = zn (p.getD i 0)) → SX (acc ++ (solS C d w (tkS C L w)).map ((p ++ [w]) ++ ·)) M6 → ∃ M', (bd (x_changesLeft (zn w) (-1) M6) fun v3 M5 => lt (zn w + 1) fun v4 => b_x_saysFrom_L67 (zn p.length) (zn (p.length + (d + 1))) (G_x_saysFrom n) F v4 M5) = some ((), M') ∧ Fq sfX M M' ∧ (∀ v, v < 5 → M'.i 66 v = L v) ∧ (∀ i, i < p.length → M'.i 67 i = zn (p.getD i 0)) ∧ SX (acc ++ (solS C d w (tkS C L w)).map ((p ++ [w]) ++ ·) ++ (lpc (fun w => (solS C d w (tkS C L w)).map (List.cons w)) j (w + 1)).map (p ++ ·)) M' := by
          intro M6 f6 L6 p6 S6
          obtain ⟨M7, e7, f7, L7⟩ := xs_changesLeft (h.sf f6) hwn (-1) L6
          have f7s : Fq sfX M6 M7 := f7.mo (fun o j q => Or.inr (by omega))
          rw [tk_back] at L7
          obtain ⟨M8, e8, f8, L8, p8, S8⟩ := ihj (w + 1) F _ M7 (by omega) (by omega) ((h.sf f6).sf f7s) L7 (fun i hi => by rw [f7.i _ _ (by omega)]; exact p6 i hi) (S6.fr f7 (by omega) (by omega) (fun j => by omega)) hl
          exact ⟨M8, by rw [bde e7, lt_u, zn_addl, e8], (f6.tr f7s).tr f8, L8, p8, S8⟩
        simp only [jn_u]
        by_cases g : nnS (takS C L w 1) 5 = 0
        · rw [if_pos g]
          have hng : ngS d (tkS C L w) := ⟨ho.tk hC hwn, nnS_0 5 g⟩
          have hnil : solS C d w (tkS C L w) = [] := sol_nil (ng := ngS) (fun d L h => h.zz) (fun d L w hw h => h.tk hC hw) d w _ hng
          refine tail M3 (fNs.tr f3s) L3 (fun i hi => ?_) ?_
          · rw [f3.i _ _ (by omega), fN.i _ _ (by omega)]; exact h67 i hi
          · rw [hnil, List.map_nil, List.append_nil]; exact S3
        · rw [if_neg g]
          obtain ⟨M6, e6, f6, L6, p6, S6⟩ := ih n w acc (p ++ [w]) (tkS C L w) M3 (by omega) (by rw [List.length_append]; show p.length + 1 + d ≤ 4; omega) (by omega) x3 L3 (ho.tk hC hwn) p3 S3 hl1
          have ep : (p ++ [w]).length = p.length + 1 := by rw [List.length_append]; rfl
          rw [ep, show p.length + 1 + d = p.length + (d + 1) by omega] at e6
          rw [zn_addl, bde e6]
          refine tail M6 ((fNs.tr f3s).tr f6) L6 (fun i hi => ?_) S6
          rw [p6 i (by omega)]
          congr 1
          simp [List.getElem?_append_left hi]
    exact loop (C.nw - f) f FU acc M (by omega) (FU_lt (by omega)) h hL h67 hS hl
end
