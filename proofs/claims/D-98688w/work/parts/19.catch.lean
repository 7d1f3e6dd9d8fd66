/-! CATCHES over the pure memory: a call whose exception the method's own handler takes; contracts of methods with handlers -/
theorem lh_stx {ad : Nat → Nat} {ls : Array Slot} {nL : Nat} {L : List (Option Value)} {j : Nat} {w : Value} (h : lv_has ls nL ((j, w) :: (asc ad L 0).filter (fun q => !(q.1 == j) && !(q.1 + 1 == j && q.2.category == 2)))) (hj : L[j]? = some none) (h2 : ∀ (i : Nat) (v : Value), i + 1 = j → L[i]? = some (some v) → v.category ≠ 2) : lh ad ls nL L := by
  refine ⟨h.1, h.2.1, fun i v hi => ?_⟩
  have hij : i ≠ j := by
    intro e
    subst e
    rw [hj] at hi
    cases hi
  refine h.2.2 (i, tr ad v) (List.mem_cons_of_mem _ (List.mem_filter.mpr ⟨(asc_mem ad L 0 _).mpr ⟨i, v, hi, by simp⟩, ?_⟩))
  simp only [Bool.and_eq_true, Bool.not_eq_true', beq_eq_false_iff_ne, ne_eq, Bool.and_eq_false_iff]
  refine ⟨hij, ?_⟩
  by_cases e : i + 1 = j
  · right; rw [tr_cat]; exact h2 i v e hi
  · left; exact e
/-- the handler's first act: it puts the exception away into a local that the walk doesn't know -/
def StX (cc : ByteArray) (nL : Nat) (L : List (Option Value)) (h9 px : Nat) : Prop := ∀ (p : Program) (l : Launch) (e : Env) (R : Room) (s : State) (m : MethodId) (args : Array Value) (below : List Frame) (meth : Method) (c : Code) (H : Heap) (locs : List Loc) (k n : Nat) (Q : State → Prop) (ad : Nat → Nat) (ls : Array Slot) (q : Addr), p.tables.exec = Jvm.exec → c.code = cc → lh ad ls nL L → (∀ ls', lh ad ls' nL L → W p l e R s m args below meth c H locs k n Q (F0 m px ls' [])) → W p l e R s m args below meth c H locs k n Q (F0 m h9 ls [.ref q])
theorem stx_astore {cc : ByteArray} {nL i h9 : Nat} {L : List (Option Value)} (d : decode cc h9 = .ok (.astore i, 2)) (hn : i < nL) (hj : L[i]? = some none) (h2 : ∀ (k : Nat) (v : Value), k + 1 = i → L[k]? = some (some v) → v.category ≠ 2) : StX cc nL L h9 (h9 + 2) :=
  fun p l e R s m args below meth c H locs k n Q ad ls q hx hb hl w => lv_astore hx hb d (lh_has hl) hn rfl (fun ls' hl' => w ls' (lh_stx hl' hj h2))
theorem stx_astore_n {cc : ByteArray} {nL h9 : Nat} {i : Fin 4} {L : List (Option Value)} (d : decode cc h9 = .ok (.astore_n i, 1)) (hn : (i : Nat) < nL) (hj : L[(i : Nat)]? = some none) (h2 : ∀ (k : Nat) (v : Value), k + 1 = (i : Nat) → L[k]? = some (some v) → v.category ≠ 2) : StX cc nL L h9 (h9 + 1) :=
  fun p l e R s m args below meth c H locs k n Q ad ls q hx hb hl w => lv_astore_n hx hb d rfl (lh_has hl) hn rfl (fun ls' hl' => w ls' (lh_stx hl' hj h2))
section JCX
variable {α β : Type} {G : JG} {cc : ByteArray} {y : MethodName} {nL D : Nat} {ret : Option FieldType} {I : PM → Prop} {fin : α → PM → State → Prop} {M : PM} {pc : Nat} {L : List (Option Value)} {S S0 : List Value}
variable {C : String} {index : Nat} {y' : MethodName} {cc' : ByteArray} {nL' D' : Nat} {ret' : Option FieldType} {rv : β → Option Value} {b : Nat} {vs : List Value} {oc : Option (Option β × PM)} {f : Option β → PM → Option (α × PM)}
set_option maxHeartbeats 1000000 in
/-- invokevirtual of a method that may throw, under this method's one handler -/
theorem J_callVX {n ci e9 h9 px : Nat} {T : u_T} {N : Nat} (hlt : (gl G).stackTraces = false) (hC : ∀ l : Launch, l.stackTraces = false → CtrX l I y' cc' nL' ret' D' rv (.ref b :: vs) M oc) (hw : GoodIn lw_all (wsV y.cls index C y' (ws_ y' cc' nL' ret'))) (hd : y'.cls = C ∧ y'.cls ≠ "java/lang/invoke/MethodHandle" ∧ y'.cls ≠ "java/lang/invoke/VarHandle" ∧ (parseMethodDescriptor y'.desc).map (fun d => d.parameters.length) = some n) (hn : vs.length = n) (hD : D' + 1 ≤ D) (hL : nL' ≤ 20)
    (hc : vwCl[ci]? = some (C, T, N)) (ha : I M → (M.k b).1 = ci) (hS0 : S0 = vs.reverse ++ .ref b :: S) (hS8 : (S.map fun v => v.category).sum ≤ 8) (d : decode cc pc = .ok (.invokevirtual index, 3))
    (hET : ETof y = tableOf [(0, e9, h9, 13)]) (h1 : pc < e9) (hlk : Cond.classLink y.cls 13 nsee ∈ lw_all) (hst : StX cc nL L h9 px)
    (kx : ∀ M1, JJ G cc y nL D ret I fin M1 px L [] (f none M1)) (k : ∀ r1 M1, JJ G cc y nL D ret I fin M1 (pc + 3) L ((rv r1).toList ++ S) (f (some r1) M1)) : JJ G cc y nL D ret I fin M pc L S0 (bd oc f) := by
  have hG := G
  obtain ⟨p, l, e, R, s, m, args, below, meth, c, E, M0⟩ := G
  intro r Me ho
  cases hoc : oc with
  | none => rw [hoc] at ho; cases ho
  | some q =>
    obtain ⟨r1, M1⟩ := q
    rw [hoc] at ho
    obtain ⟨g1, g2⟩ := hC l hlt r1 M1 hoc
    have g1 := g1 hG
    have k1 : M1.n ≤ Me.n ∧ M1.w ≤ Me.w := by
      cases r1 with
      | none => exact (kx M1 r Me ho).1
      | some a1 => exact (k a1 M1 r Me ho).1
    refine ⟨⟨Nat.le_trans g1.1 k1.1, Nat.le_trans g1.2 k1.2⟩, fun cx a b0 u v i H locs ls hR hS hl => ?_⟩
    have hob := ob_of hR (ha i) hc
    have hK := cx.2.2.2.2.2.2.1.1
    have hrun := vx_runV (As := vs.map (tr E.ad)) (b := E.ad b) (cells := M.n - M0.n) (slots := M.w - M0.w) (rest := S.map (tr E.ad)) (g := F0 m pc ls (S0.map (tr E.ad))) (H := H) (locs := locs) (e := e) (below := below) (meth := meth) ⟨cx.1, cx.2.1, cx.2.2.1, cx.2.2.2.1, cx.2.2.2.2.1⟩ (g2 E) (cwV n cx.2.2.2.2.1 hw rfl rfl rfl hd (call_room (s := 0) hD hL cx.2.2.2.2.2.2.2.2.2.1 cx.2.2.2.2.2.2.2.2.2.2.1))
      ⟨fun a U g mk q => ⟨q.1, q.2.1, q.2.2.blind g mk a⟩, (by
        obtain ⟨cell, g1, g2, g3, -⟩ := hob
        exact ⟨cell, g1, by rw [g3]; rfl, by rw [g2]; exact (hK.1 ci _ hc).2.1⟩), fun U hU hW => ⟨rfl, i, wd_end cx.2.2.2.2.2.1 cx.2.2.2.2.2.2.1 cx.2.2.2.2.2.2.2.1 hR hS hU hW⟩⟩ rfl (by rw [List.length_map]; exact hn) hl.1 (by
        show S0.map (tr E.ad) = _
        rw [hS0, List.map_append, List.map_reverse]
        rfl) (lv_room (by rw [tr_cats]; exact hS8)) d ⟨by omega, by omega⟩
    intro T9 hT X
    rcases hrun T9 hT X with ⟨v0, st₀, t, T', Lc, h0, X', hLc, e1, e2, ⟨a0, ha0, ⟨hv0, hI1, hW1⟩, hF⟩, st⟩ | ⟨q0, st₀, t, T', Lc, C0, ce, h0, X', hLc, e1, e2, ⟨hr0, hC0, ⟨hI1, hW1⟩, hF⟩, hce, hcv, hcl, st⟩
    · subst ha0
      cases hv0
      have hR1 : Rep E M1 T'.heap := by rw [e1]; exact hW1.2.2.2
      have hS1 : va_S (fun q => E.B ≤ q) s.heap T'.heap (locs ++ Lc) := by
        rw [va_F, h0, ← e1] at hF
        refine ⟨Nat.le_trans hS.1 hF.1, fun q q1 q2 => (hF.2 q (Nat.lt_of_lt_of_le q1 hS.1) q2).trans (hS.2.1 q q1 q2), fun z hz => ?_⟩
        rcases List.mem_append.mp hz with h | h
        · exact hS.2.2 z h
        · exact hLc z h
      rw [show M.n - M0.n + (M1.n - M.n) = M1.n - M0.n by omega, show M.w - M0.w + (M1.w - M.w) = M1.w - M0.w by omega] at X'
      obtain ⟨t2, a1, b1⟩ := (k a0 M1 r Me ho).2 cx a b0 (by omega) (by omega) hI1 T'.heap (locs ++ Lc) ls hR1 hS1 hl T' rfl X'
      refine ⟨t2, st t2 ?_, b1⟩
      have e3 : ((rv a0).toList ++ S).map (tr E.ad) = ((rv a0).map (tr E.ad)).toList ++ S.map (tr E.ad) := by
        cases rv a0 <;> rfl
      rw [e3] at a1
      exact a1
    · subst hr0
      have hR1 : Rep E M1 T'.heap := by rw [e1]; exact hW1.2.2.2
      have hS1 : va_S (fun q => E.B ≤ q) s.heap T'.heap (locs ++ Lc) := by
        rw [va_F, h0, ← e1] at hF
        refine ⟨Nat.le_trans hS.1 hF.1, fun q q1 q2 => (hF.2 q (Nat.lt_of_lt_of_le q1 hS.1) q2).trans (hS.2.1 q q1 q2), fun z hz => ?_⟩
        rcases List.mem_append.mp hz with h | h
        · exact hS.2.2 z h
        · exact hLc z h
      rw [show M.n - M0.n + (M1.n - M.n) = M1.n - M0.n by omega, show M.w - M0.w + (M1.w - M.w) = M1.w - M0.w by omega] at X'
      have hw9 : ∀ ls', lh E.ad ls' nL L → W p l e R s m args below meth c T'.heap (locs ++ Lc) (M1.n - M0.n) (M1.w - M0.w) (fin r Me) (F0 m px ls' []) := fun ls' hl' => (kx M1 r Me ho).2 cx a b0 (by omega) (by omega) hI1 T'.heap (locs ++ Lc) ls' hR1 hS1 hl'
      have hcat := vx_catch (Q := fin r Me) (pc := pc) (rest := S.map (tr E.ad)) (ls := ls) (e := e) (below := below) (meth := meth) (H := T'.heap) (locs := locs ++ Lc) (cells := M1.n - M0.n) (slots := M1.w - M0.w) cx.2.2.2.1 [] ⟨0, e9, h9, 13⟩ [] (by rw [cx.2.2.2.2.2.2.2.2.2.2.2.2.2, hET]; rfl) (fun z hz => nomatch hz) (by simp [covers, h1]) (Nat.succ_ne_zero 12) (cx.2.2.2.2.1 _ hlk) (by rw [hC0]; exact cast_of cx.2.2.2.2.2.2.1) (by rw [e1]; exact hce) hcv hcl (hst p l e R s m args below meth c T'.heap (locs ++ Lc) _ _ (fin r Me) E.ad ls q0 cx.1 cx.2.1 hl hw9)
      obtain ⟨t2, a1, b1⟩ := hcat T' rfl X'
      exact ⟨t2, st.trans a1, b1⟩
end JCX
/-- a contract of a method with handlers -/
def CtrH {α : Type} (l : Launch) (I : PM → Prop) (y : MethodName) (cc : ByteArray) (nL : Nat) (ret : Option FieldType) (hh : List (Nat × Nat × Nat × Nat)) (D : Nat) (rv : α → Option Value) (vs : List Value) (M : PM) (o : Option (α × PM)) : Prop :=
  ∀ (r : α) (M1 : PM), o = some (r, M1) → (JG → M.n ≤ M1.n ∧ M.w ≤ M1.w) ∧ ∀ E : En, Met l y (wsW_ y cc nL ret hh) { frames := D, cells := M1.n - M.n, slots := M1.w - M.w, locals := 40 * D } (va_Pc (vs.map (tr E.ad)) (fun U => I M ∧ Wd E M U)) (QcR E I rv r M1) (M1.n - M.n) (M1.w - M.w) (fun q => E.B ≤ q)
theorem CtrH.of {α : Type} {l : Launch} {I : PM → Prop} {y : MethodName} {cc : ByteArray} {nL D : Nat} {ret : Option FieldType} {hh : List (Nat × Nat × Nat × Nat)} {rv : α → Option Value} {vs : List Value} {M : PM} {o : Option (α × PM)} (hlt : l.stackTraces = false) (hpl : plainName y.cls = true) (hent : ((vs.map fun v => v.category).sum) ≤ nL) (body : ∀ G : JG, (gl G).stackTraces = false → JJ G cc y nL D ret I (finR G I rv) M 0 (ent vs nL) [] o) (hE9 : ETof y = tableOf hh) : CtrH l I y cc nL ret hh D rv vs M o := by
  intro r M1 ho
  refine ⟨fun G => ?_, fun E => ?_⟩
  · obtain ⟨p, _, e, R, s, m, args, below, meth, c, E, M0⟩ := G
    exact (body (p, l, e, R, s, m, args, below, meth, c, E, M0) hlt r M1 ho).1
  · refine MetFree.of_bodyS (code := cc) (maxLocals := nL) (ret := ret) hpl ?_ ?_
    · intro args s m h hn
      obtain ⟨m9, meth, c, hn9, h1, h2, h3, h4, -, h5, h6, -⟩ := Cond.codeWith_spec (atoms_spec (ws := wsW_ y cc nL ret hh) h _ List.mem_cons_self)
      cases hn.symm.trans hn9
      exact ⟨meth, c, h1, h2, h3, h4, h5, h6⟩
    · intro p e s m args below meth c s₁ B hml hv _
      have hh0 : s₁.heap = s.heap := by rw [B.state]; rfl
      obtain ⟨rfl, hI, hE, hT, hP, hR⟩ := hv
      have hET : c.exceptionTable.toList = ETof y := (vx_table (x := y) B (atoms_spec (ws := wsW_ y cc nL ret hh) B.pre _ List.mem_cons_self)).trans hE9.symm
      have hts := atoms_spec (ws := wsW_ y cc nL ret hh) B.pre
      have hts : ∀ w ∈ lw_all, w.before _ s = true := fun w h => hts w (List.mem_cons_of_mem _ h)
      obtain ⟨hl, hent'⟩ := ent_lh E.ad vs nL hent
      have hb := (body (p, l, e, (headSpec (wsW_ y cc nL ret hh) { frames := D, cells := M1.n - M.n, slots := M1.w - M.w, locals := 40 * D }).room, s, m, (vs.map (tr E.ad)).toArray, below, meth, c, E, M) hlt r M1 ho)
      have hw := hb.2 ⟨B.exec, B.bytes, hml, findClass_of_methodNamed B.named, hts, hE, hT, hP, B.notSynchronized, Nat.le_refl _, Nat.le_refl _, B.returns, (name_of_methodNamed B.named B.method).1, hET⟩ (by show M1.n ≤ M.n + (M1.n - M.n); omega) (by show M1.w ≤ M.w + (M1.w - M.w); omega) (Nat.le_refl _) (Nat.le_refl _) hI s.heap [] hl hR va_S.rf hent'.2
      rw [Nat.sub_self, Nat.sub_self] at hw
      obtain ⟨t, a1, o9, b1, b2, b3, b4⟩ := hw s₁ hh0 (Stand.of_body B)
      exact ⟨t, o9, (by rw [hent'.1 m]; exact a1), b1, b2, b3, b4⟩
section JCH
variable {α β : Type} {G : JG} {cc : ByteArray} {y : MethodName} {nL D : Nat} {ret : Option FieldType} {I : PM → Prop} {fin : α → PM → State → Prop} {M : PM} {pc : Nat} {L : List (Option Value)} {S S0 : List Value}
variable {C : String} {index : Nat} {y' : MethodName} {cc' : ByteArray} {nL' D' : Nat} {ret' : Option FieldType} {rv : β → Option Value} {vs : List Value} {oc : Option (β × PM)} {f : β → PM → Option (α × PM)} {hh : List (Nat × Nat × Nat × Nat)}
/-- invokestatic of a method with handlers -/
theorem J_callSH {n : Nat} (hlt : (gl G).stackTraces = false) (hC : ∀ l : Launch, l.stackTraces = false → CtrH l I y' cc' nL' ret' hh D' rv vs M oc) (hw : GoodIn lw_all (va_wsS y.cls index y' (wsW_ y' cc' nL' ret' hh))) (hd : y'.cls ≠ "java/lang/invoke/MethodHandle" ∧ y'.cls ≠ "java/lang/invoke/VarHandle" ∧ (parseMethodDescriptor y'.desc).map (fun d => d.parameters.length) = some n) (hn : vs.length = n) (hD : D' + 1 ≤ D) (hL : nL' ≤ 20)
    (hS0 : S0 = vs.reverse ++ S) (hS8 : (S.map fun v => v.category).sum ≤ 8) (d : decode cc pc = .ok (.invokestatic index, 3)) (k : ∀ r1 M1, JJ G cc y nL D ret I fin M1 (pc + 3) L ((rv r1).toList ++ S) (f r1 M1)) : JJ G cc y nL D ret I fin M pc L S0 (bd oc f) := by
  have hG := G
  obtain ⟨p, l, e, R, s, m, args, below, meth, c, E, M0⟩ := G
  intro r Me ho
  cases hoc : oc with
  | none => rw [hoc] at ho; cases ho
  | some q =>
    obtain ⟨r1, M1⟩ := q
    rw [hoc] at ho
    obtain ⟨g1, g2⟩ := hC l hlt r1 M1 hoc
    have g1 := g1 hG
    obtain ⟨k1, k2⟩ := k r1 M1 r Me ho
    refine ⟨⟨Nat.le_trans g1.1 k1.1, Nat.le_trans g1.2 k1.2⟩, fun cx a b u v i H locs ls hR hS hl => ?_⟩
    have hrun := vx_runSW (As := vs.map (tr E.ad)) (cells := M.n - M0.n) (slots := M.w - M0.w) (rest := S.map (tr E.ad)) (g := F0 m pc ls (S0.map (tr E.ad))) (H := H) (locs := locs) (e := e) (below := below) (meth := meth) ⟨cx.1, cx.2.1, cx.2.2.1, cx.2.2.2.1, cx.2.2.2.2.1⟩ (g2 E) (vx_cwSW n cx.2.2.2.2.1 hw rfl rfl rfl hd (call_room (s := 0) hD hL cx.2.2.2.2.2.2.2.2.2.1 cx.2.2.2.2.2.2.2.2.2.2.1))
      ⟨fun a U g mk q => ⟨q.1, q.2.1, q.2.2.blind g mk a⟩, fun U hU hW => ⟨rfl, i, wd_end cx.2.2.2.2.2.1 cx.2.2.2.2.2.2.1 cx.2.2.2.2.2.2.2.1 hR hS hU hW⟩⟩ rfl (by rw [List.length_map]; exact hn) hl.1 (by
        show S0.map (tr E.ad) = _
        rw [hS0, List.map_append, List.map_reverse]) (lv_room (by rw [tr_cats]; exact hS8)) d ⟨by omega, by omega⟩
    intro T hT X
    obtain ⟨v0, st₀, t, T', Lc, h0, X', hLc, e1, e2, ⟨⟨hv0, hI1, hW1⟩, hF⟩, st⟩ := hrun T hT X
    cases hv0
    have hR1 : Rep E M1 T'.heap := by rw [e1]; exact hW1.2.2.2
    have hS1 : va_S (fun q => E.B ≤ q) s.heap T'.heap (locs ++ Lc) := by
      rw [va_F, h0, ← e1] at hF
      refine ⟨Nat.le_trans hS.1 hF.1, fun q q1 q2 => (hF.2 q (Nat.lt_of_lt_of_le q1 hS.1) q2).trans (hS.2.1 q q1 q2), fun z hz => ?_⟩
      rcases List.mem_append.mp hz with h | h
      · exact hS.2.2 z h
      · exact hLc z h
    rw [show M.n - M0.n + (M1.n - M.n) = M1.n - M0.n by omega, show M.w - M0.w + (M1.w - M.w) = M1.w - M0.w by omega] at X'
    obtain ⟨t2, a1, b1⟩ := k2 cx a b (by omega) (by omega) hI1 T'.heap (locs ++ Lc) ls hR1 hS1 hl T' rfl X'
    refine ⟨t2, st t2 ?_, b1⟩
    have e3 : ((rv r1).toList ++ S).map (tr E.ad) = ((rv r1).map (tr E.ad)).toList ++ S.map (tr E.ad) := by
      cases rv r1 <;> rfl
    rw [e3] at a1
    exact a1
end JCH
def oel {α β : Type} (fx : PM → Option (α × PM)) (fk : β → PM → Option (α × PM)) (q : Option β) (M : PM) : Option (α × PM) := match q with
  | none => fx M
  | some a => fk a M
theorem et_2 {y : MethodName} (h : y.cls = "TollOnVowelsLaw") (h1 : y.name ≠ "law") (h2 : y.name ≠ "row") : ETof y = tableOf [(0, 10, 13, 13)] := by rw [ETof, if_pos h, if_neg h1, if_neg h2]
theorem et_1 {y : MethodName} (h : y.cls = "TollOnVowelsLaw") (h1 : y.name = "row") : ETof y = tableOf [(0, 8, 11, 13)] := by rw [ETof, if_pos h, if_neg (by rw [h1]; decide), if_pos h1]
