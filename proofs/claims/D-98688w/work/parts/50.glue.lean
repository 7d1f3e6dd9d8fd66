set_option maxRecDepth 100000
/-! THE GLUE: the claim out of the pure law -/
def PM0 : PM := ((20, 0), fun _ => (99, 0), fun _ _ => 0, fun _ _ => 0, fun _ _ => none)
theorem arr_of {s : State} {args : Array Value} {ty : FieldType} (h : (Cond.arrayClass ty).before args s = true) : ∃ cA, ArrOfT s cA ty ∧ s.vm.findClass ("[" ++ ty.toString) = some cA := by
  obtain ⟨c, k, comp, h1, h2, h3⟩ := Cond.arrayClass_spec h
  exact ⟨c, fun n z => ⟨fun k h => (by cases h), k, h2, comp, h3⟩, h1⟩
theorem arr_ofO {s : State} {args : Array Value} {C : String} (h : (Cond.arrayOver (.object C)).before args s = true) : ∃ cA, ArrOfT s cA (.object C) ∧ va_RA s cA (.object C) := by
  obtain ⟨comp, c, k, h1, -, h2, h3, h4⟩ := Cond.arrayOver_spec h
  exact ⟨c, fun n z => ⟨fun k h => (by cases h), k, h2, comp, h3⟩, k, comp, h2, h3, h1, h4⟩
/-- the classes' places -/
theorem kn_of {s : State} {args : Array Value} (hts : ∀ w ∈ lw_all, w.before args s = true) : ∃ D : va_G, ∀ (c : Nat) (q : vw_C), vwCl[c]? = some q → u_Kn s q.1 q.2.1 q.2.2 (D.1 c) (D.2 c) := by
  obtain ⟨c1, i1, k1⟩ := u_known hts in_X1 (hts _ q137)
  obtain ⟨c2, i2, k2⟩ := u_known hts in_X2 (hts _ (by decide +kernel : Cond.instantiable RX2 6 ∈ lw_all))
  obtain ⟨c3, i3, k3⟩ := u_known hts in_X3 (hts _ q1102)
  obtain ⟨c5, i5, k5⟩ := u_known hts in_X5 (hts _ (by decide +kernel : Cond.instantiable RX5 3 ∈ lw_all))
  obtain ⟨c6, i6, k6⟩ := u_known hts in_X6 (hts _ (by decide +kernel : Cond.instantiable RX6 3 ∈ lw_all))
  obtain ⟨c7, i7, k7⟩ := u_known hts in_X7 (hts _ (by decide +kernel : Cond.instantiable RX7 3 ∈ lw_all))
  obtain ⟨c8, i8, k8⟩ := u_known hts in_X8 (hts _ (by decide +kernel : Cond.instantiable RX8 5 ∈ lw_all))
  refine ⟨(fun c => [c1, c2, c3, c5, c6, c7, c8].getD c 0, fun c => [i1, i2, i3, i5, i6, i7, i8].getD c (fun _ => 0)), fun c q hq => ?_⟩
  have hc : c < 7 := (List.getElem?_eq_some_iff.mp hq).1
  rcases (show c = 0 ∨ c = 1 ∨ c = 2 ∨ c = 3 ∨ c = 4 ∨ c = 5 ∨ c = 6 by omega) with e | e | e | e | e | e | e <;> (subst e; cases hq; assumption)
/-- nothing was written that was there before -/
theorem framed_of {s t : State} {o : Outcome} {L : List Loc} {mc ms : Nat} (h : FrameEnd s o t L mc ms) (hL : ∀ q ∈ L, s.heap.size ≤ q.base) (hc : mc ≤ 601024) (hs : ms ≤ 7293034) : Framed s o t [] 601024 7293034 := by
  obtain ⟨h1, h2, e1, e2, e3, e4, e5, e6⟩ := h
  refine ⟨h1, h2, e1, e2, Nat.le_trans e3 (by omega), e4, Nat.le_trans e5 hs, fun a c ha => ?_⟩
  obtain ⟨c', k1, k2, k3, k4⟩ := e6 a c ha
  refine ⟨c', k1, k2, k3, fun i _ => k4 i fun hm => ?_⟩
  have g1 := hL _ hm
  have g2 := (Array.getElem?_eq_some_iff.mp ha).1
  exact absurd g2 (Nat.not_lt.mpr g1)
def tmS (i : Nat) : Term := .string "TollOnVowels" ((strL.map (fun q => q.1)).getD i 0)
theorem world_of {s : State} {b : Nat} (hts : ∀ w ∈ lw_tbl, w.before #[Value.ref b] s = true) (hg : (Jvm.Cond.and given_1 narrow_1).before #[Value.ref b] s = true) : ∃ E : En, EOk E ∧ E.B = s.heap.size ∧ E.ad 0 = b ∧ Tb E s ∧ Pic E s s.heap := by
  have hs := flat_of_before _ hg
  have hall : ∀ w ∈ lw_all, w.before #[Value.ref b] s = true := fun w h => hts w (lw_all_tbl h)
  have hA : ∀ a : Nat, a < s.heap.size → ¬ s.heap.size ≤ a := fun a h => Nat.not_le.mpr h
  obtain ⟨D, hD⟩ := kn_of hall
  obtain ⟨a0, f0, n0⟩ := arr_of (hall _ q175)
  obtain ⟨a1, f1, n1⟩ := arr_of (hall _ q529)
  obtain ⟨a2, f2, n2⟩ := arr_of (hall _ q1276)
  obtain ⟨a3, f3, n3⟩ := arr_of (hall _ q389)
  obtain ⟨a4, f4, n4⟩ := arr_ofO (hts _ q176)
  obtain ⟨adK, adV, hS, hK⟩ := vk_Sof (args := #[Value.ref b]) (s := s) (N := 9) (tm := tmS) (len := strLen) (byt := strByt) (A := fun q => s.heap.size ≤ q) (by decide +kernel)
    (fun i hi => hs _ ((by decide +kernel : ∀ i, i < 9 → Cond.exactly (tmS i) "java/lang/String" ∈ flatC (Jvm.Cond.and given_1 narrow_1)) i hi))
    (fun i hi => hs _ ((by decide +kernel : ∀ i, i < 9 → Cond.eq (.field (tmS i) "java/lang/String" "coder" "B") (.int 0) ∈ flatC (Jvm.Cond.and given_1 narrow_1)) i hi))
    (fun i hi => hs _ ((by decide +kernel : ∀ i, i < 9 → Cond.arrayOf (.field (tmS i) "java/lang/String" "value" "[B") .byte ∈ flatC (Jvm.Cond.and given_1 narrow_1)) i hi))
    (fun i hi => hs _ ((by decide +kernel : ∀ i, i < 9 → Cond.eq (.length (.field (tmS i) "java/lang/String" "value" "[B")) (.int (Int32.ofNat (strLen.getD i 0))) ∈ flatC (Jvm.Cond.and given_1 narrow_1)) i hi))
    (fun i hi j hj => hs _ ((by decide +kernel : ∀ i, i < 9 → ∀ j, j < strLen.getD i 0 → Cond.eq (.elem (.field (tmS i) "java/lang/String" "value" "[B") (.int (Int32.ofNat j))) (.int ((strByt.getD i []).getD j 0)) ∈ flatC (Jvm.Cond.and given_1 narrow_1)) i hi j hj))
    (fun i j hi hj hij => ((by decide +kernel : ∀ i, i < 9 → ∀ j, j < 9 → i ≠ j → (Cond.not (Cond.eq (tmS i) (tmS j)) ∈ flatC (Jvm.Cond.and given_1 narrow_1) ∨ Cond.not (Cond.eq (tmS j) (tmS i)) ∈ flatC (Jvm.Cond.and given_1 narrow_1))) i hi j hj hij).elim (fun h => Or.inl (hs _ h)) (fun h => Or.inr (hs _ h))) hA
  obtain ⟨adF, hF⟩ : ∃ f : Nat → Nat, f = (fun o => if 20 ≤ o then s.heap.size + (o - 20) else if 10 ≤ o then adV (o - 10) else if 1 ≤ o then adK (o - 1) else b) := ⟨_, rfl⟩
  have h20 : ∀ o, 20 ≤ o → adF o = s.heap.size + (o - 20) := fun o ho => by rw [hF]; exact if_pos ho
  have h00 : adF 0 = b := by rw [hF]; rfl
  have eK : ∀ i, i < 9 → adF (1 + i) = adK i := fun i hi => by
    rw [hF]
    show (if 20 ≤ 1 + i then _ else if 10 ≤ 1 + i then _ else if 1 ≤ 1 + i then adK (1 + i - 1) else b) = _
    rw [if_neg (by omega), if_neg (by omega), if_pos (by omega), show 1 + i - 1 = i by omega]
  have eV : ∀ i, i < 9 → adF (10 + i) = adV i := fun i hi => by
    rw [hF]
    show (if 20 ≤ 10 + i then _ else if 10 ≤ 10 + i then adV (10 + i - 10) else _) = _
    rw [if_neg (by omega), if_pos (by omega), show 10 + i - 10 = i by omega]
  refine ⟨(D, (fun c => [a0, a1, a2, a3, a4].getD (c - 20) 0), adF, s.heap.size, fun _ => 0), fun o ho => ?_, rfl, h00, ⟨⟨hD, fun k q hq => ?_⟩, fun w hw => ?_, fun w hw => ?_, va_Nw.of rfl (hts _ (by decide +kernel)), va_AO.of (hts _ q176), fun i q hq => ?_⟩, ?_⟩
  · exact h20 o ho
  · have hk : k < 5 := (List.getElem?_eq_some_iff.mp hq).1
    rcases (show k = 0 ∨ k = 1 ∨ k = 2 ∨ k = 3 ∨ k = 4 by omega) with e | e | e | e | e <;> (subst e; cases hq; exact ⟨by assumption, by assumption⟩)
  · exact va_Nw.of (nwF_tab w hw) (hts _ ((by decide +kernel : ∀ w ∈ nwF, w ∈ lw_tbl) w hw))
  · exact va_Nw.of (nwM_tab w hw) (hts _ ((by decide +kernel : ∀ w ∈ nwM, w ∈ lw_tbl) w hw))
  · have hi : i < 9 := (List.getElem?_eq_some_iff.mp hq).1
    have e1 : Cond.stringRef "TollOnVowels" q.1 q.2 ∈ lw_tbl := by
      have := (by decide +kernel : ∀ q ∈ strL, Cond.stringRef "TollOnVowels" q.1 q.2 ∈ lw_tbl) q (List.mem_of_getElem? hq)
      exact this
    have e2 := hK i hi
    have e3 : tmS i = .string "TollOnVowels" q.1 := by
      rw [tmS, List.getD_eq_getElem?_getD, List.getElem?_map, hq]
      rfl
    rw [e3] at e2
    refine vk_R.of (A := #[Value.ref b]) (hts _ e1) ?_
    show _ = some (Value.ref (adF (1 + i)))
    rw [eK i hi]
    exact e2
  · refine ⟨?_, va_Zof (hts _ q438) (hall _ (by decide +kernel)) ?_ hA, vx_Zqof (hts _ q1038) (hall _ (by decide +kernel)) (hs _ (by decide +kernel)) hA, vx_Zqof (hts _ q1040) (hall _ (by decide +kernel)) (hs _ (by decide +kernel)) hA, fun _ _ _ => Nat.le_refl _⟩
    · refine ⟨fun i hi => ?_, fun i j hi hj e => ?_⟩
      · have g := hS.1 i hi
        rw [← eK i hi, ← eV i hi] at g
        exact g
      · have e' : adF (1 + i) = adF (1 + j) := e
        rw [eK i hi, eK j hj] at e'
        exact hS.2 i j hi hj e'
    · exact va_eqi (hs _ (by decide +kernel))
/-- what the pure law owes -/
def PureLaw : Prop := ∀ (sL : Nat) (sx : Nat → Int32), sL ≤ 320 → ∃ Me, lw_law sL sx PM0 = some (1, Me) ∧ Me.n ≤ 601044 ∧ Me.w ≤ 7293034
theorem start_of (hp : PureLaw) {p : Program} {e : Env} {s : State} {m : MethodId} {below : List Frame} {meth : Method} {c : Code} (l : Launch) (hlt : l.stackTraces = false) {b L : Nat} {xs : Nat → Int32} (hL : L ≤ 320)
    (hexec : p.tables.exec = Jvm.exec) (hcode : c.code = code) (hret : meth.sig.returnType = some .boolean) (hml : c.maxLocals = 8) (hown : s.vm.findClass "TollOnVowelsLaw" = some m.cls) (hts : ∀ w ∈ lw_tbl, w.before #[Value.ref b] s = true) (hX : va_X b L xs s s.heap) (hbl : b < s.heap.size) (hlocks : meth.locks = false) (hg : (Jvm.Cond.and given_1 narrow_1).before #[Value.ref b] s = true) (hname : meth.name = "law") (hET : c.exceptionTable.toList = []) :
    W p l e room_1 s m #[Value.ref b] below meth c s.heap [] 0 0 (fun t => ∃ o, t.status = .running ∧ Ended t below o ∧ o = .returned (some (.int 1)) ∧ Framed s o t [] 601024 7293034) (entryFrame m ([Value.ref b] : List Value).toArray 8) := by
  obtain ⟨E, hE, hB, hb, hT, hP⟩ := world_of hts hg
  obtain ⟨ls, hent, hlh⟩ := ent_lh E.ad [.ref 0] 8 (by decide)
  have hR : Rep E PM0 s.heap := ⟨by decide, by rw [hB]; rfl, fun o h1 h2 => absurd h2 (Nat.not_lt.mpr h1), fun a _ => rfl⟩
  obtain ⟨Me, hMe, hn, hw⟩ := hp L xs hL
  have hall : ∀ w ∈ lw_all, w.before #[Value.ref b] s = true := fun w h => hts w (lw_all_tbl h)
  have hj := t_lw_law (p, l, e, room_1, s, m, #[Value.ref b], below, meth, c, E, PM0) L xs hlt ⟨by rw [hb]; exact hX, by rw [hb]; exact hbl, by rw [hb, hB]; exact Nat.not_le.mpr hbl⟩ PM0 1 Me hMe
  have n0 : PM0.n = 20 := rfl
  have w0 : PM0.w = 0 := rfl
  have rc : room_1.cells = 601024 := rfl
  have rs : room_1.slots = 7293034 := rfl
  have hk := hj.2 ⟨hexec, hcode, hml, hown, hall, hE, hT, hP, hlocks, Nat.le_of_ble_eq_true rfl, Nat.le_of_ble_eq_true rfl, hret, hname, by rw [hET]; rfl⟩ (by rw [n0, rc]; omega) (by rw [w0, rs]; omega) (Nat.le_refl _) (Nat.le_refl _) trivial s.heap [] ls hR va_S.rf hlh
  rw [Nat.sub_self, Nat.sub_self] at hk
  intro T hT9 X
  obtain ⟨t, st, o, b1, b2, ⟨⟨b3, -, -⟩, -⟩, Lc, b4, b5⟩ := hk T hT9 X
  have e1 : entryFrame m ([Value.ref b] : List Value).toArray 8 = F0 m 0 ls [] := by
    rw [← hent m]
    show _ = entryFrame m ([Value.ref (E.ad 0)] : List Value).toArray 8
    rw [hb]
  refine ⟨t, by rw [e1]; exact st, o, b1, b2, b3, framed_of b4 (fun q hq => ?_) (by rw [n0]; omega) (by rw [w0]; omega)⟩
  have := b5 q hq
  rw [hB] at this
  exact this
