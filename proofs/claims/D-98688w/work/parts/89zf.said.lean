set_option maxRecDepth 100000
/-! SAID: the reference goes through all ways -/
/-- the ways so far: how many, the first of the shortest -/
def SY (acc : List (List Nat)) (M : PM) : Prop := M.i 72 49 = zn acc.length ∧ ∀ s, bs4 acc = some s → M.i 72 48 = zn s.length ∧ ∀ i, i < s.length → M.i 99 i = zn (s.getD i 0)
abbrev sfY (o j : Nat) : Prop := (o = 72 ∧ (j = 48 ∨ j = 49)) ∨ (97 ≤ o ∧ o ≤ 99)
theorem shR_sfY : ∀ q ∈ shR, ¬ sfY q.1 q.2.1 := by decide +kernel
def AOK (l : List (List Nat)) : Prop := l.length < 1000000 ∧ (∀ s, s ∈ l → (1 ≤ s.length ∧ s.length ≤ 4) ∧ ∀ x, x ∈ s → x < 10) ∧ l.Pairwise Rlx
theorem AOK.l {a b : List (List Nat)} (h : AOK (a ++ b)) : AOK a := by
  obtain ⟨h1, h2, h3⟩ := h
  rw [List.length_append] at h1
  exact ⟨by omega, fun s hs => h2 s (List.mem_append_left _ hs), (List.pairwise_append.mp h3).1⟩
theorem getD_mem {p : List Nat} {i : Nat} (h : i < p.length) : p.getD i 0 ∈ p := by
  rw [List.getD_eq_getElem?_getD, List.getElem?_eq_getElem h]
  exact List.getElem_mem h
theorem drop_c {p : List Nat} {i : Nat} (h : i < p.length) : p.drop i = p.getD i 0 :: p.drop (i + 1) := by
  rw [List.getD_eq_getElem?_getD, List.getElem?_eq_getElem h]
  exact List.drop_eq_getElem_cons h
section
variable {C : SV} {M M1 : PM}
theorem SY.fr {c : Nat → Nat → Prop} {acc : List (List Nat)} (h : SY acc M) (f : Fq c M M1) (h1 : ¬ c 72 48) (h2 : ¬ c 72 49) (h3 : ∀ j, ¬ c 99 j) : SY acc M1 :=
  ⟨by rw [f.i _ _ h2]; exact h.1, fun s e => by
    obtain ⟨g1, g2⟩ := h.2 s e
    exact ⟨by rw [f.i _ _ h1]; exact g1, fun i hi => by rw [f.i _ _ (h3 i)]; exact g2 i hi⟩⟩
theorem CY.sf (h : CY 83 C M) (f : Fq sfY M M1) : CY 83 C M1 := h.fr f shR_sfY (fun o j q => by unfold sfY; omega)
theorem ms_lex {p b : List Nat} (hp : ∀ x, x ∈ p → x < 10) (hb : ∀ x, x ∈ b → x < 10) (hk : p.length = b.length) (h4 : p.length ≤ 4) (h98 : ∀ i, i < p.length → M.i 98 i = zn (p.getD i 0)) (h99 : ∀ i, i < b.length → M.i 99 i = zn (b.getD i 0)) : ∀ d i F, i + d = p.length → d < F → lxl (p.drop i) (b.drop i) = false → m_isFirst_L38 (zn p.length) (fun (v3 : Int32) (M3 : PM) => ck v3 4 <| ck v3 4 <| if (M3.i 99 (ix v3)) ≤ (M3.i 98 (ix v3)) then (some (0, M3)) else (some (1, M3))) F (zn i) M = some (0, M) := by
  intro d
  induction d with
  | zero =>
    intro i F hi hF h
    obtain ⟨F, rfl⟩ : ∃ m, F = m + 1 := ⟨F - 1, by omega⟩
    rw [m_isFirst_L38, if_pos (by rw [zn_le (by omega) (by omega)]; omega)]
  | succ d ih =>
    intro i F hi hF h
    obtain ⟨F, rfl⟩ : ∃ m, F = m + 1 := ⟨F - 1, by omega⟩
    have i1 : i < p.length := by omega
    have i2 : i < b.length := by omega
    have q1 := hp _ (getD_mem i1)
    have q2 := hb _ (getD_mem i2)
    rw [drop_c i1, drop_c i2] at h
    have h' : (if p.getD i 0 = b.getD i 0 then lxl (p.drop (i + 1)) (b.drop (i + 1)) else decide (p.getD i 0 < b.getD i 0)) = false := h
    rw [m_isFirst_L38, if_neg (by rw [zn_le (by omega) (by omega)]; omega), ck_zn (by omega) (by omega), ck_zn (by omega) (by omega), ix_zn (by omega), h98 i i1, h99 i i2]
    by_cases e : p.getD i 0 = b.getD i 0
    · rw [if_pos e] at h'
      rw [if_pos (by rw [e]), lt_u, zn_addl]
      exact ih (i + 1) F (by omega) (by omega) h'
    · rw [if_neg e] at h'
      have h2 : ¬ p.getD i 0 < b.getD i 0 := of_decide_eq_false h'
      rw [if_neg (by rw [zn_eq (by omega) (by omega)]; exact e), ck_zn (by omega) (by omega), ck_zn (by omega) (by omega), if_pos (by rw [zn_le (by omega) (by omega)]; omega)]
def isF (acc : List (List Nat)) (p : List Nat) : Bool := match bs4 acc with
  | none => true
  | some b => decide (p.length < b.length)
theorem ms_isFirst {acc : List (List Nat)} {p : List Nat} (hS : SY acc M) (hA : AOK (acc ++ [p])) (h98 : ∀ i, i < p.length → M.i 98 i = zn (p.getD i 0)) : m_isFirst (zn p.length) M = some (bo (isF acc p), M) := by
  obtain ⟨a1, a2, a3⟩ := hA
  obtain ⟨⟨k1, k4⟩, kx⟩ := a2 p (by simp)
  obtain ⟨s1, s2⟩ := hS
  rw [List.length_append] at a1
  have a1' : acc.length + 1 < 1000000 := a1
  unfold m_isFirst
  simp only [jn_u]
  by_cases e : acc = []
  · subst e
    have z : M.i 72 49 = 0 := s1
    rw [if_pos z, if_pos z]
    rfl
  · obtain ⟨b, hb⟩ := bs4_none (fun s hs => (a2 s (List.mem_append_left _ hs)).1) e
    obtain ⟨⟨b1, b4⟩, bx⟩ := a2 b (List.mem_append_left _ (bs4_mem hb))
    obtain ⟨t1, t2⟩ := s2 b hb
    have hl : acc.length ≠ 0 := fun q => e (List.length_eq_zero_iff.mp q)
    have nz : ¬ M.i 72 49 = 0 := by rw [s1, zn_eq_l (by omega) (by omega)]; omega
    have hR : Rlx b p := (List.pairwise_append.mp a3).2.2 b (bs4_mem hb) p (List.mem_singleton.mpr rfl)
    rw [if_neg nz, if_neg nz, t1]
    unfold isF
    rw [hb]
    show _ = some (bo (decide (p.length < b.length)), M)
    by_cases g : p.length = b.length
    · rw [if_pos (by rw [g]), decide_eq_false (by omega)]
      exact ms_lex kx bx g k4 h98 t2 p.length 0 FU (by omega) (FU_lt (by omega)) (hR g.symm)
    · rw [if_neg (by rw [zn_eq (by omega) (by omega)]; exact g)]
      by_cases g2 : b.length ≤ p.length
      · rw [if_pos (by rw [zn_le (by omega) (by omega)]; exact g2), decide_eq_false (by omega)]
        rfl
      · rw [if_neg (by rw [zn_le (by omega) (by omega)]; exact g2), decide_eq_true (by omega)]
        rfl
theorem ms_cpw {p : List Nat} (h4 : p.length ≤ 4) (c1 : Int32) (f : Int32 → Int32 → PM → Option (Unit × PM)) (Kc : PM → Option (Unit × PM)) : ∀ d i F M, i + d = p.length → d < F → (∀ j, j < p.length → M.i 98 j = zn (p.getD j 0)) → (∀ j, j < i → M.i 99 j = zn (p.getD j 0)) → ∃ M', b_m_goSaid_L26 c1 (zn p.length) Kc f F (zn i) M = Kc M' ∧ Fq (fun o _ => o = 99) M M' ∧ ∀ j, j < p.length → M'.i 99 j = zn (p.getD j 0) := by
  intro d
  induction d with
  | zero =>
    intro i F M hi hF h98 h99
    obtain ⟨F, rfl⟩ : ∃ m, F = m + 1 := ⟨F - 1, by omega⟩
    rw [b_m_goSaid_L26, if_pos (by rw [zn_le (by omega) (by omega)]; omega)]
    exact ⟨M, rfl, Fq.rf, fun j hj => h99 j (by omega)⟩
  | succ d ih =>
    intro i F M hi hF h98 h99
    obtain ⟨F, rfl⟩ : ∃ m, F = m + 1 := ⟨F - 1, by omega⟩
    obtain ⟨N, hN⟩ : ∃ N, N = M.si 99 i (zn (p.getD i 0)) := ⟨_, rfl⟩
    have fN : Fq (fun o _ => o = 99) M N := by rw [hN]; exact Fq.si (c := fun o _ => o = 99) Fq.rf rfl
    rw [b_m_goSaid_L26, if_neg (by rw [zn_le (by omega) (by omega)]; omega), ck_zn (by omega) (by omega), ck_zn (by omega) (by omega), ix_zn (by omega), h98 i (by omega), lt_u, ← hN, zn_addl, lt_u]
    obtain ⟨M2, e2, f2, r2⟩ := ih (i + 1) F N (by omega) (by omega) (fun j hj => by rw [fN.i _ _ (by omega)]; exact h98 j hj) (fun j hj => by
      rw [hN, si_i]
      by_cases e : j = i
      · rw [if_pos ⟨rfl, e⟩, e]
      · rw [if_neg (by omega)]; exact h99 j (by omega))
    exact ⟨M2, e2, fN.tr f2, r2⟩
abbrev preS (C : SV) (d f : Nat) (L : Nat → Int32) : List (List Nat) := preL zzb (tkS C) C.nw d f L
/-- what a node itself adds -/
theorem ms_own {acc : List (List Nat)} {p : List Nat} {L : Nat → Int32} {f : Nat} (g : Int32 → Int32 → PM → Option (Unit × PM)) (h : CY 83 C M) (hp : 1 ≤ p.length) (hp4 : p.length ≤ 4) (hL : ∀ v, v < 5 → M.i 97 v = L v) (h98 : ∀ i, i < p.length → M.i 98 i = zn (p.getD i 0)) (hS : SY acc M) (hA : AOK (acc ++ (ownL zzb L).map (p ++ ·))) :
    ∃ M', b_m_goSaid g (zn f) (zn p.length) M = b_m_goSaid_L61 (zn p.length) g FU (zn f) M' ∧ Fq sfY M M' ∧ (∀ v, v < 5 → M'.i 97 v = L v) ∧ (∀ i, i < p.length → M'.i 98 i = zn (p.getD i 0)) ∧ SY (acc ++ (ownL zzb L).map (p ++ ·)) M' := by
  have nl0 : ¬ zn p.length ≤ 0 := by
    have := zn_le (a := p.length) (b := 0) (by omega) (by omega)
    rw [show zn 0 = (0 : Int32) from rfl] at this
    rw [this]; omega
  unfold b_m_goSaid
  simp only [jn_u]
  rw [if_neg nl0, bde (ms_isAll h.sh hL)]
  unfold ownL at hA ⊢
  by_cases z : zzS L 5 = 0
  · have g2 : ¬ zzb L = true := by unfold zzb; rw [z]; decide
    rw [if_neg g2] at hA ⊢
    rw [if_pos z, List.map_nil, List.append_nil]
    exact ⟨M, rfl, Fq.rf, hL, h98, hS⟩
  · have g1 : zzS L 5 = 1 := (zzS_01 L 5).resolve_left z
    have g2 : zzb L = true := by unfold zzb; rw [g1]; decide
    rw [if_pos g2] at hA ⊢
    rw [List.map_cons, List.map_nil, List.append_nil] at hA ⊢
    rw [if_neg z, bde (ms_isFirst hS hA h98)]
    obtain ⟨a1, a2, a3⟩ := hA
    obtain ⟨⟨k1, k4⟩, kx⟩ := a2 p (by simp)
    have hsn : bs4 (acc ++ [p]) = if isF acc p = true then some p else bs4 acc := by
      rw [bs4_snoc acc p ⟨k1, k4⟩]
      unfold isF
      cases bs4 acc with
      | none => rfl
      | some b =>
        show (if p.length < b.length then some p else some b) = if decide (p.length < b.length) = true then some p else some b
        by_cases q : p.length < b.length
        · rw [if_pos q, decide_eq_true q, if_pos rfl]
        · rw [if_neg q, decide_eq_false q, if_neg (by decide)]
    obtain ⟨s1, s2⟩ := hS
    by_cases w : isF acc p = true
    · rw [w, if_neg (show ¬ bo true = 0 by decide), lt_u]
      rw [if_pos w] at hsn
      obtain ⟨N, hN⟩ : ∃ N, N = M.si 72 48 (zn p.length) := ⟨_, rfl⟩
      have fN : Fq (fun o j => o = 72 ∧ j = 48) M N := by rw [hN]; exact Fq.si (c := fun o j => o = 72 ∧ j = 48) Fq.rf ⟨rfl, rfl⟩
      obtain ⟨Kd, hKd⟩ : ∃ Kd : PM → Option (Unit × PM), Kd = (fun (M14 : PM) => lt (M14.si 72 49 ((M14.i 72 49) + 1)) fun M10 => b_m_goSaid_L61 (zn p.length) g FU (zn f) M10) := ⟨_, rfl⟩
      obtain ⟨M2, e2, f2, r2⟩ := ms_cpw k4 (zn f) g Kd p.length 0 FU N (by omega) (FU_lt (by omega)) (fun j hj => by rw [fN.i _ _ (by omega)]; exact h98 j hj) (fun j hj => absurd hj (Nat.not_lt_zero j))
      rw [← hN, ← hKd]
      have e2' : b_m_goSaid_L26 (zn f) (zn p.length) Kd g FU 0 N = Kd M2 := e2
      rw [e2', hKd]
      simp only [lt_u]
      have m49 : M2.i 72 49 = zn acc.length := by rw [f2.i _ _ (by omega), fN.i _ _ (by omega)]; exact s1
      obtain ⟨N3, hN3⟩ : ∃ N3, N3 = M2.si 72 49 ((M2.i 72 49) + 1) := ⟨_, rfl⟩
      have f3 : Fq (fun o j => o = 72 ∧ j = 49) M2 N3 := by rw [hN3]; exact Fq.si (c := fun o j => o = 72 ∧ j = 49) Fq.rf ⟨rfl, rfl⟩
      rw [← hN3]
      refine ⟨N3, rfl, ((fN.mo (d := sfY) (fun o j q => Or.inl ⟨q.1, Or.inl q.2⟩)).tr (f2.mo (d := sfY) (fun o j q => Or.inr (by omega)))).tr (f3.mo (d := sfY) (fun o j q => Or.inl ⟨q.1, Or.inr q.2⟩)), fun v hv => ?_, fun i hi => ?_, ?_, fun s e => ?_⟩
      · rw [f3.i _ _ (by omega), f2.i _ _ (by omega), fN.i _ _ (by omega)]; exact hL v hv
      · rw [f3.i _ _ (by omega), f2.i _ _ (by omega), fN.i _ _ (by omega)]; exact h98 i hi
      · rw [hN3, si_i, if_pos ⟨rfl, rfl⟩, m49, zn_addl, List.length_append]; rfl
      · rw [hsn] at e
        cases e
        refine ⟨?_, fun i hi => ?_⟩
        · rw [f3.i _ _ (by omega), f2.i _ _ (by omega), hN, si_i, if_pos ⟨rfl, rfl⟩]
        · rw [f3.i _ _ (by omega)]; exact r2 i hi
    · rw [if_neg w] at hsn
      rw [Bool.eq_false_iff.mpr w, if_pos (show bo false = 0 by decide), lt_u]
      obtain ⟨N3, hN3⟩ : ∃ N3, N3 = M.si 72 49 ((M.i 72 49) + 1) := ⟨_, rfl⟩
      have f3 : Fq (fun o j => o = 72 ∧ j = 49) M N3 := by rw [hN3]; exact Fq.si (c := fun o j => o = 72 ∧ j = 49) Fq.rf ⟨rfl, rfl⟩
      rw [← hN3]
      refine ⟨N3, rfl, f3.mo (d := sfY) (fun o j q => Or.inl ⟨q.1, Or.inr q.2⟩), fun v hv => ?_, fun i hi => ?_, ?_, fun s e => ?_⟩
      · rw [f3.i _ _ (by omega)]; exact hL v hv
      · rw [f3.i _ _ (by omega)]; exact h98 i hi
      · rw [hN3, si_i, if_pos ⟨rfl, rfl⟩, s1, zn_addl, List.length_append]; rfl
      · rw [hsn] at e
        obtain ⟨t1, t2⟩ := s2 s e
        exact ⟨by rw [f3.i _ _ (by omega)]; exact t1, fun i hi => by rw [f3.i _ _ (by omega)]; exact t2 i hi⟩
/-- what stands behind a node: d words more at the most -/
def GS (C : SV) (d n : Nat) : Prop := ∀ f acc (p : List Nat) L M, p.length + d = 4 → 1 ≤ p.length → f ≤ C.nw → CY 83 C M → (∀ v, v < 5 → M.i 97 v = L v) → (∀ i, i < p.length → M.i 98 i = zn (p.getD i 0)) → SY acc M → AOK (acc ++ (preS C d f L).map (p ++ ·)) →
    ∃ M', G_m_goSaid n (zn f) (zn p.length) M = some ((), M') ∧ Fq sfY M M' ∧ (∀ v, v < 5 → M'.i 97 v = L v) ∧ (∀ i, i < p.length → M'.i 98 i = zn (p.getD i 0)) ∧ SY (acc ++ (preS C d f L).map (p ++ ·)) M'
theorem gs_loop (hC : OKC C) {d n : Nat} (ih : GS C d n) {p : List Nat} (hp : p.length + (d + 1) = 4) (L : Nat → Int32) : ∀ j w F acc M, w + j = C.nw → j < F → CY 83 C M → (∀ v, v < 5 → M.i 97 v = L v) → (∀ i, i < p.length → M.i 98 i = zn (p.getD i 0)) → SY acc M → AOK (acc ++ (lpc (fun w => (preS C d w (tkS C L w)).map (List.cons w)) j w).map (p ++ ·)) →
    ∃ M', b_m_goSaid_L61 (zn p.length) (G_m_goSaid n) F (zn w) M = some ((), M') ∧ Fq sfY M M' ∧ (∀ v, v < 5 → M'.i 97 v = L v) ∧ (∀ i, i < p.length → M'.i 98 i = zn (p.getD i 0)) ∧ SY (acc ++ (lpc (fun w => (preS C d w (tkS C L w)).map (List.cons w)) j w).map (p ++ ·)) M' := by
  have b1 := hC.nw10
  intro j
  induction j with
  | zero =>
    intro w F acc M hw hF h hL h98 hS hA
    obtain ⟨F, rfl⟩ : ∃ m, F = m + 1 := ⟨F - 1, by omega⟩
    rw [b_m_goSaid_L61, h.nw, if_pos (by rw [zn_le (by omega) (by omega)]; omega)]
    refine ⟨M, rfl, Fq.rf, hL, h98, ?_⟩
    show SY (acc ++ ([] : List (List Nat)).map (p ++ ·)) M
    rw [List.map_nil, List.append_nil]
    exact hS
  | succ j ihj =>
    intro w F acc M hw hF h hL h98 hS hA
    obtain ⟨F, rfl⟩ : ∃ m, F = m + 1 := ⟨F - 1, by omega⟩
    have hwn : w < C.nw := by omega
    have el : (lpc (fun w => (preS C d w (tkS C L w)).map (List.cons w)) (j + 1) w).map (p ++ ·) = (preS C d w (tkS C L w)).map ((p ++ [w]) ++ ·) ++ (lpc (fun w => (preS C d w (tkS C L w)).map (List.cons w)) j (w + 1)).map (p ++ ·) := by
      show ((preS C d w (tkS C L w)).map (List.cons w) ++ lpc (fun w => (preS C d w (tkS C L w)).map (List.cons w)) j (w + 1)).map (p ++ ·) = _
      rw [List.map_append, List.map_map]
      congr 1
      apply List.map_congr_left
      intro s _
      show p ++ (w :: s) = (p ++ [w]) ++ s
      rw [List.append_assoc]
      rfl
    rw [el, ← List.append_assoc] at hA
    rw [el, ← List.append_assoc]
    obtain ⟨N, hN⟩ : ∃ N, N = M.si 98 p.length (zn w) := ⟨_, rfl⟩
    have fN : Fq (fun o j => o = 98 ∧ j = p.length) M N := by rw [hN]; exact Fq.si (c := fun o j => o = 98 ∧ j = p.length) Fq.rf ⟨rfl, rfl⟩
    have fNs : Fq sfY M N := fN.mo (fun o j q => Or.inr (by omega))
    have hNx := h.sf fNs
    obtain ⟨M3, e3, f3, L3⟩ := ms_take hNx hwn 1 (L := L) (fun v hv => by rw [fN.i _ _ (by omega)]; exact hL v hv)
    have f3s : Fq sfY N M3 := f3.mo (fun o j q => Or.inr (by omega))
    have x3 := hNx.sf f3s
    have S3 : SY acc M3 := (hS.fr fN (by omega) (by omega) (fun j => by omega)).fr f3 (by omega) (by omega) (fun j => by omega)
    have p3 : ∀ i, i < (p ++ [w]).length → M3.i 98 i = zn ((p ++ [w]).getD i 0) := by
      intro i hi
      rw [List.length_append] at hi
      have hi' : i < p.length + 1 := hi
      rw [f3.i _ _ (by omega)]
      by_cases e : i = p.length
      · subst e
        rw [hN, si_i, if_pos ⟨rfl, rfl⟩]
        congr 1
        simp
      · rw [fN.i _ _ (by omega), h98 i (by omega)]
        congr 1
        simp [List.getElem?_append_left (show i < p.length by omega)]
    have ep : (p ++ [w]).length = p.length + 1 := by rw [List.length_append]; rfl
    obtain ⟨M6, e6, f6, L6, p6, S6⟩ := ih w acc (p ++ [w]) (tkS C L w) M3 (by omega) (by omega) (by omega) x3 L3 p3 S3 hA.l
    rw [ep] at e6
    have fM6 : Fq sfY M M6 := (fNs.tr f3s).tr f6
    obtain ⟨M7, e7, f7, L7⟩ := ms_take (h.sf fM6) hwn (-1) L6
    have f7s : Fq sfY M6 M7 := f7.mo (fun o j q => Or.inr (by omega))
    rw [tk_back] at L7
    obtain ⟨M8, e8, f8, L8, p8, S8⟩ := ihj (w + 1) F _ M7 (by omega) (by omega) ((h.sf fM6).sf f7s) L7 (fun i hi => by
      rw [f7.i _ _ (by omega), p6 i (by omega)]
      congr 1
      simp [List.getElem?_append_left hi]) (S6.fr f7 (by omega) (by omega) (fun j => by omega)) hA
    refine ⟨M8, ?_, (fM6.tr f7s).tr f8, L8, p8, S8⟩
    rw [b_m_goSaid_L61, h.nw, if_neg (by rw [zn_le (by omega) (by omega)]; omega), if_neg (by rw [l_le_zn (by omega) (by omega)]; omega), ck_zn (by omega) (by omega), ix_zn (by omega), lt_u, ← hN, bde e3, zn_addl, bde e6, bde e7, lt_u, zn_addl, e8]
theorem gs_all (hC : OKC C) : ∀ d n, d < n → GS C d n := by
  have b1 := hC.nw10
  intro d
  induction d with
  | zero =>
    intro n hn f acc p L M hp hp1 hf h hL h98 hS hA
    obtain ⟨n, rfl⟩ : ∃ m, n = m + 1 := ⟨n - 1, by omega⟩
    obtain ⟨M2, e2, f2, L2, p2, S2⟩ := ms_own (f := f) (G_m_goSaid n) h hp1 (by omega) hL h98 hS hA
    refine ⟨M2, ?_, f2, L2, p2, S2⟩
    show b_m_goSaid (G_m_goSaid n) (zn f) (zn p.length) M = _
    rw [e2]
    show b_m_goSaid_L61 (zn p.length) (G_m_goSaid n) (29999 + 1) (zn f) M2 = _
    rw [b_m_goSaid_L61]
    by_cases g : M2.i 72 2 ≤ zn f
    · rw [if_pos g]
    · rw [if_neg g, if_pos (by rw [l_le_zn (by omega) (by omega)]; omega)]
  | succ d ih =>
    intro n hn f acc p L M hp hp1 hf h hL h98 hS hA
    obtain ⟨n, rfl⟩ : ∃ m, n = m + 1 := ⟨n - 1, by omega⟩
    have es : preS C (d + 1) f L = ownL zzb L ++ lpc (fun w => (preS C d w (tkS C L w)).map (List.cons w)) (C.nw - f) f := rfl
    rw [es, List.map_append, ← List.append_assoc] at hA
    obtain ⟨M2, e2, f2, L2, p2, S2⟩ := ms_own (f := f) (G_m_goSaid n) h hp1 (by omega) hL h98 hS hA.l
    obtain ⟨M3, e3, f3, L3, p3, S3⟩ := gs_loop hC (ih n (by omega)) hp L (C.nw - f) f FU _ M2 (by omega) (FU_lt (by omega)) (h.sf f2) L2 p2 S2 hA
    refine ⟨M3, ?_, f2.tr f3, L3, p3, ?_⟩
    · show b_m_goSaid (G_m_goSaid n) (zn f) (zn p.length) M = _
      rw [e2, e3]
    · rw [es, List.map_append, ← List.append_assoc]; exact S3
abbrev prrS (C : SV) (L : Nat → Int32) : List (List Nat) := prr zzb (tkS C) C.nw L
theorem prr_AOK (hC : OKC C) (L : Nat → Int32) : AOK (prrS C L) := by
  have h1 : (prrS C L).length ≤ 20000 := prr_len (zz := zzb) (tk := tkS C) hC.nw10 L
  exact ⟨by omega, fun s hs => ⟨prr_ok L s hs, fun x hx => by have := prr_lt L s hs x hx; have := hC.nw10; omega⟩, prr_pw L⟩
theorem ms_goSaid {L : Nat → Int32} (h : CY 83 C M) (hL : ∀ v, v < 5 → M.i 97 v = L v) (h49 : M.i 72 49 = 0) : ∃ M', m_goSaid 0 0 M = some ((), M') ∧ Fq sfY M M' ∧ SY (prrS C L) M' := by
  have hC := h.ok
  have b1 := hC.nw10
  obtain ⟨M2, e2, f2, -, -, S2⟩ := gs_loop hC (gs_all hC 3 119 (by omega)) (p := []) rfl L C.nw 0 FU [] M (by omega) (FU_lt (by omega)) h hL (fun i hi => absurd hi (Nat.not_lt_zero i)) ⟨h49, fun s e => by cases e⟩ (by
    have := prr_AOK hC L
    have e : (lpc (fun w => (preS C 3 w (tkS C L w)).map (List.cons w)) C.nw 0).map (([] : List Nat) ++ ·) = prrS C L := by
      show (prrS C L).map (fun s => [] ++ s) = _
      simp
    rw [e]
    exact this)
  have e : (lpc (fun w => (preS C 3 w (tkS C L w)).map (List.cons w)) C.nw 0).map (([] : List Nat) ++ ·) = prrS C L := by
    show (prrS C L).map (fun s => [] ++ s) = _
    simp
  rw [e] at S2
  refine ⟨M2, ?_, f2, S2⟩
  show b_m_goSaid (G_m_goSaid 119) 0 0 M = _
  unfold b_m_goSaid
  simp only [jn_u]
  rw [if_pos (by decide)]
  exact e2
end
