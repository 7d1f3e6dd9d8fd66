/-! EXCEPTIONS over the pure memory: a method's result none is 'thrown' -/
section
variable {p : Program} {l : Launch} {e : Env} {R : Room} {s : State} {m : MethodId} {args : Array Value} {below : List Frame} {meth : Method} {c : Code} {H : Heap} {locs : List Loc} {cells slots : Nat} {Q : State → Prop}
variable {mc ms : Nat} {free : Addr → Prop} {A0 A1 : Nat → Prop} {H0 : Heap} {a : Array Value} {ls : Array Slot} {st0 rest : List Value}
variable {Qc : Array Value → State → Outcome → State → Prop} {XC : String → State → State → Prop}
theorem vx_throw0' {cc : ByteArray} {pc : Nat} (hexec : p.tables.exec = Jvm.exec) (hb : c.code = cc) (hl : l.stackTraces = false) {own cls : String} {names : List String} {ik ic mc ms : Nat} {A : Nat → Prop}
    (hown : s.vm.findClass own = some m.cls) (hcls : Bundle.fit cls = true) (hnames : ∀ n ∈ names, Bundle.fit n = true)
    (hk : (Cond.classLink own ik cls).before args s = true) (hini : (Cond.initialized cls).before args s = true) (hat : ∀ w ∈ vx_at0 own ic cls names, w.before args s = true)
    (hgood : ∀ w ∈ Cond.classLink own ik cls :: Cond.initialized cls :: vx_at0 own ic cls names, vx_ot w = true)
    (hU : vx_Zq Bundle.tN "UNASSIGNED_STACK" Bundle.steD A s s.heap) (hN : vx_Zq Bundle.tN "SUPPRESSED_SENTINEL" Bundle.listD A s s.heap) (hS : va_S A s.heap H locs) (hsize : ls.size = c.maxLocals)
    (d0 : decode cc pc = .ok (.new ik, 3)) (d3 : decode cc (pc + 3) = .ok (.dup, 1)) (d4 : decode cc (pc + 4) = .ok (.invokespecial ic, 3)) (d7 : decode cc (pc + 7) = .ok (.athrow, 1))
    (hout : ∀ x ∈ c.exceptionTable.toList, covers x (pc + 7) = false)
    (hRframes : names.length + 3 < R.frames) (hRlocals : (rest.map fun v => v.category).sum + (13 * (names.length + 1) + 42) ≤ R.locals) (hRcells : cells + 1 ≤ R.cells) (hRslots : slots + 6 ≤ R.slots) (hlocks : meth.locks = false)
    (hx : ∀ t : State, s.WarmedH t.vm → t.heap.size = H.size + 1 → (∀ q : Nat, q < H.size → t.heap[q]? = H[q]?) → XC cls s t)
    (hf : ∀ z ∈ locs, free z.base) (hc : cells + 1 ≤ mc) (hs : slots + 6 ≤ ms) :
    W p l e R s m args below meth c H locs cells slots (vx_MQ below Qc XC args s mc ms free) (F0 m pc ls rest) := by
  intro T hT X
  have htr : e.platform.stackTraces = false := (show e.platform.stackTraces = l.stackTraces by rw [X.admits.platform]).trans hl
  have Y := vx_rebase X (R' := { frames := R.frames, locals := R.locals, cells := 1, slots := 6 }) (Nat.le_refl _) (Nat.le_refl _) hRcells hRslots
  obtain ⟨s', hA⟩ : ∃ z, z = (T.setVm s.vm).setFrames (.invoking m args :: below) := ⟨_, rfl⟩
  rw [← hA] at Y
  have hvm : s'.vm = s.vm := by rw [hA]; rfl
  have hhp : s'.heap = H := by rw [hA]; exact hT
  have hW0 : s.WarmedH s'.vm := by rw [hvm]; exact State.WarmedH.refl s
  have hat' : ∀ w ∈ vx_at0 own ic cls names, w.before args s' = true := fun w hw => vx_ot_at hW0 hvm.symm (hgood w (List.mem_cons_of_mem _ (List.mem_cons_of_mem _ hw))) (hat w hw)
  have hk' : (Cond.classLink own ik cls).before args s' = true := vx_ot_at hW0 hvm.symm (hgood _ List.mem_cons_self) hk
  have hini' : (Cond.initialized cls).before args s' = true := vx_ot_at hW0 hvm.symm (hgood _ (List.mem_cons_of_mem _ List.mem_cons_self)) hini
  have hU' : vx_Zq Bundle.tN "UNASSIGNED_STACK" Bundle.steD A s' s'.heap := by rw [hhp]; exact vx_Zq.moved hW0.alike (hU.kept hS.2.1)
  have hN' : vx_Zq Bundle.tN "SUPPRESSED_SENTINEL" Bundle.listD A s' s'.heap := by rw [hhp]; exact vx_Zq.moved hW0.alike (hN.kept hS.2.1)
  have h : ∀ w ∈ Bundle.ownAtoms0 own ic cls names, w.before args s' = true := vx_own hat' (vx_isRefq hU'.1) (vx_isRefq hN'.1) hU'.2.word hN'.2.word
  have hown' : s'.vm.findClass own = some m.cls := by rw [hvm]; exact hown
  have hins : (Cond.instantiable cls 6).before args s' = true := h _ (by simp [Bundle.ownAtoms0])
  obtain ⟨vm₁, cX, kX, hfX, hkX, -, -, X₁, st1⟩ := Y.newCold hexec (own := own) (C := cls) (index := ik) (n := 6) hown' hk' hins hini'
    (g := F0 m pc ls rest) rfl (by rw [hb]; exact d0) (Nat.le_refl _) (Nat.le_refl _)
  generalize hT1 : (T.setVm vm₁).pushCell { cls := cX, slots := kX.instanceTypes.map defaultValue, vm := .none } = T1 at X₁ st1
  have hcat : (Value.ref T.heap.size).category = 1 := rfl
  have hcellA : T1.heap[T.heap.size]? = some (freshCell cX kX) := by rw [← hT1]; exact State.heap_pushCell_size _ _
  have d3' : decode c.code (pc + 3) = .ok (.dup, 1) := by rw [hb]; exact d3
  obtain ⟨U, hsteps, hrun, hend, hW, hsame, ce, hce, hO⟩ := X₁.ctorThrow0 hexec htr (own := own) (cls := cls) (names := names) (ic := ic) hown' hcls hnames h (fun x hx => nomatch hx) hfX hkX hcellA (by rw [hhp, hT]; exact Nat.le_refl _)
    (g := { method := m, pc := pc + 4, locals := ls, stack := .ref T.heap.size :: .ref T.heap.size :: rest, locked := none }) rfl hsize rfl rfl (rest := rest) rfl
    (by rw [hb]; exact d4) (by rw [hb]; exact d7) hout hRframes (by simp only [List.map_cons, List.sum_cons, hcat]; omega) hlocks
  obtain ⟨f1, f2⟩ := vx_frame hsame
  rw [hhp] at f1 f2
  have f3 : U.heap.size = H.size + 1 := by
    have g1 : U.heap.size ≤ s'.heap.size + (0 + 1) := hsame.2.2.1
    have g2 : T.heap.size < U.heap.size := (Array.getElem?_eq_some_iff.mp hce).1
    rw [hhp] at g1
    rw [hT] at g2
    omega
  have hWs : s.WarmedH U.vm := State.WarmedH.trans hW0 hW
  have hcl : s.vm.findClass cls = some ce.cls := by
    have h9 := hO.cls
    rw [hvm] at h9
    exact h9
  have hall : s.sameButNew ({ U with vm := s.vm } : State) locs mc ms := by
    subst hA
    obtain ⟨e1, e2⟩ := hsame
    rw [State.setFrames_setFrames] at e1
    have h2 : (T.setVm s.vm).sameButNew ({ U with vm := s.vm } : State) [] (0 + 1) (0 + 6) := ⟨e1, e2⟩
    have h3 := X.same.trans h2
    rw [List.append_nil] at h3
    exact h3.mono hc hs
  refine ⟨U, ?_, .threw T.heap.size, hrun, hend, Or.inr ⟨T.heap.size, rfl, cls, ce, locs, hx U hWs f3 (fun q hq => f2 q hq (fun z hz => nomatch hz)), hce, hO.vm, hcl, hWs, hall, hf⟩⟩
  refine st1 _ ?_
  show Steps p.tables e below (T1.setTop { method := m, pc := pc + 3, locals := ls, stack := .ref T.heap.size :: rest, locked := none }) _
  jvm_step X₁.here [X₁.here.top, hexec, d3', Value.category]
  exact hsteps
end
/-- the locals at the entry -/
theorem ent_lh (ad : Nat → Nat) (vs : List Value) (nL : Nat) (hent : ((vs.map fun v => v.category).sum) ≤ nL) : ∃ ls : Array Slot, (∀ m : MethodId, entryFrame m (vs.map (tr ad)).toArray nL = F0 m 0 ls []) ∧ lh ad ls nL (ent vs nL) := by
  have hlen : (lg_sl (vs.map (tr ad))).length ≤ nL := by
    have e1 : ∀ ws : List Value, (lg_sl ws).length = (ws.map fun v => v.category).sum := by
      intro ws
      induction ws with
      | nil => rfl
      | cons v ws ih =>
        have : lg_sl (v :: ws) = lg_sl [v] ++ lg_sl ws := by simp [lg_sl]
        rw [this, List.length_append, ih, List.map_cons, List.sum_cons]
        congr 1
        cases v <;> rfl
    rw [e1, tr_cats]
    exact hent
  have hl := lv_entry (vs.map (tr ad)) (n := nL) hlen
  refine ⟨_, fun m => lg_entry_eq m _ nL, hl.1, hl.2.1, fun j w hj => hl.2.2 (j, tr ad w) (by have := ent_get ad vs nL 0 j w hj; rwa [Nat.zero_add] at this)⟩
def nsee : String := "java/util/NoSuchElementException"
def nseeUp : List String := ["java/lang/RuntimeException", "java/lang/Exception"]
def gl (G : JG) : Launch := match G with
  | (_, l, _, _, _, _, _, _, _, _, _, _) => l
def QcX {α : Type} (E : En) (I : PM → Prop) (rv : α → Option Value) (r : Option α) (Me : PM) : Array Value → State → Outcome → State → Prop := fun _ st oc t => ∃ a, r = some a ∧ (oc = .returned ((rv a).map (tr E.ad)) ∧ I Me ∧ Wd E Me t) ∧ va_F (fun q => E.B ≤ q) st t
def XCX {α : Type} (E : En) (I : PM → Prop) (r : Option α) (Me : PM) : String → State → State → Prop := fun C st t => r = none ∧ C = nsee ∧ (I Me ∧ Wd E Me t) ∧ va_F (fun q => E.B ≤ q) st t
def finX {α : Type} (G : JG) (I : PM → Prop) (rv : α → Option Value) : Option α → PM → State → Prop := match G with
  | (_, _, _, _, s, _, args, below, _, _, E, M0) => fun r Me => vx_MQ below (QcX E I rv r Me) (XCX E I r Me) args s (Me.n - M0.n) (Me.w - M0.w) (fun q => E.B ≤ q)
def CtrX {α : Type} (l : Launch) (I : PM → Prop) (y : MethodName) (cc : ByteArray) (nL : Nat) (ret : Option FieldType) (D : Nat) (rv : α → Option Value) (vs : List Value) (M : PM) (o : Option (Option α × PM)) : Prop :=
  ∀ (r : Option α) (M1 : PM), o = some (r, M1) → (JG → M.n ≤ M1.n ∧ M.w ≤ M1.w) ∧ ∀ E : En, vx_Met l y (ws_ y cc nL ret) { frames := D, cells := M1.n - M.n, slots := M1.w - M.w, locals := 40 * D } (va_Pc (vs.map (tr E.ad)) (fun U => I M ∧ Wd E M U)) (QcX E I rv r M1) (XCX E I r M1) (M1.n - M.n) (M1.w - M.w) (fun q => E.B ≤ q)
section JEX
variable {α : Type} {G : JG} {cc : ByteArray} {y : MethodName} {nL D : Nat} {ret : Option FieldType} {I : PM → Prop} {M : PM} {pc : Nat} {L : List (Option Value)} {S : List Value}
theorem JX_iret {v : Int32} (d : decode cc pc = .ok (.ireturn, 1)) : JJ G cc y nL D (some .int) I (finX G I rvI) M pc L [.int v] (some (some v, M)) := by
  obtain ⟨p, l, e, R, s, m, args, below, meth, c, E, M0⟩ := G
  intro r Me ho
  cases ho
  exact ⟨⟨Nat.le_refl _, Nat.le_refl _⟩, fun cx a b u w i H locs ls hR hS hl => vx_ret (W.iret cx.1 cx.2.1 cx.2.2.2.2.2.2.2.2.2.2.2.1 (fun t ht hW => ⟨v, rfl, ⟨rfl, i, wd_end cx.2.2.2.2.2.1 cx.2.2.2.2.2.2.1 cx.2.2.2.2.2.2.2.1 hR hS ht hW⟩, hS.F ht⟩) hS.2.2 d cx.2.2.2.2.2.2.2.2.1)⟩
theorem JX_lret {v : Int64} (d : decode cc pc = .ok (.lreturn, 1)) : JJ G cc y nL D (some .long) I (finX G I rvL) M pc L [.long v] (some (some v, M)) := by
  obtain ⟨p, l, e, R, s, m, args, below, meth, c, E, M0⟩ := G
  intro r Me ho
  cases ho
  exact ⟨⟨Nat.le_refl _, Nat.le_refl _⟩, fun cx a b u w i H locs ls hR hS hl => vx_ret (W.lret cx.1 cx.2.1 cx.2.2.2.2.2.2.2.2.2.2.2.1 (fun t ht hW => ⟨v, rfl, ⟨rfl, i, wd_end cx.2.2.2.2.2.1 cx.2.2.2.2.2.2.1 cx.2.2.2.2.2.2.2.1 hR hS ht hW⟩, hS.F ht⟩) hS.2.2 d cx.2.2.2.2.2.2.2.2.1)⟩
theorem thr_in : ((vx_at0 "TollOnVowels" 355 nsee nseeUp).filter goodWord).all (fun w => decide (w ∈ lw_all)) = true := by decide +kernel
theorem thr_no : ((vx_at0 "TollOnVowels" 355 nsee nseeUp).filter (fun w => !goodWord w)).all (fun w => decide (w ∈ nwM.drop 5)) = true := by decide +kernel
theorem thr_ot : (Cond.classLink "TollOnVowels" 353 nsee :: Cond.initialized nsee :: vx_at0 "TollOnVowels" 355 nsee nseeUp).all vx_ot = true := by decide +kernel
theorem cast_of {E : En} {s : State} {args : Array Value} (h : Tb E s) : (Cond.castable nsee nsee).before args s = true := va_Nw.use rfl (h.2.2.1 _ (by simp [nwM, nsee]))
theorem J_throw {rv : α → Option Value} (hl : (gl G).stackTraces = false) (hyc : y.cls = "TollOnVowels") (hD : 6 ≤ D) (hI : I M → I (M.nw 99 0 6)) (d0 : decode cc pc = .ok (.new 353, 3)) (d3 : decode cc (pc + 3) = .ok (.dup, 1)) (d4 : decode cc (pc + 4) = .ok (.invokespecial 355, 3)) (d7 : decode cc (pc + 7) = .ok (.athrow, 1)) : JJ G cc y nL D ret I (finX G I rv) M pc L [] (some (none, M.nw 99 0 6)) := by
  obtain ⟨p, l, e, R, s, m, args, below, meth, c, E, M0⟩ := G
  intro r Me ho
  cases ho
  have en : (M.nw 99 0 6).n = M.n + 1 := rfl
  have ew : (M.nw 99 0 6).w = M.w + 6 := rfl
  refine ⟨⟨by omega, by omega⟩, fun cx a b u w i H locs ls hR hS hls => ?_⟩
  have hts : ∀ w ∈ lw_all, w.before args s = true := cx.2.2.2.2.1
  have hown : s.vm.findClass "TollOnVowels" = some m.cls := by rw [← hyc]; exact cx.2.2.2.1
  have hE := cx.2.2.2.2.2.1
  have hT := cx.2.2.2.2.2.2.1
  have hP := cx.2.2.2.2.2.2.2.1
  have f1 : D ≤ R.frames := cx.2.2.2.2.2.2.2.2.2.1
  have f2 : 40 * D ≤ R.locals := cx.2.2.2.2.2.2.2.2.2.2.1
  have hET : c.exceptionTable.toList = [] := by
    rw [cx.2.2.2.2.2.2.2.2.2.2.2.2.2, ETof, hyc]
    rfl
  refine vx_throw0' (own := "TollOnVowels") (cls := nsee) (names := nseeUp) (ik := 353) (ic := 355) (A := fun q => E.B ≤ q) cx.1 cx.2.1 hl hown (by decide) (by decide) (hts _ q1011) (hts _ q134) ?_ ?_ hP.2.2.1 hP.2.2.2.1 hS (by rw [cx.2.2.1]; exact hls.1) d0 d3 d4 d7 (by rw [hET]; intro x hx; cases hx) ?_ ?_ ?_ ?_ cx.2.2.2.2.2.2.2.2.1 ?_ hS.2.2 ?_ ?_
  · refine vx_hat (B := nwM.drop 5) (fun w hw => hts w (of_decide_eq_true (List.all_eq_true.mp thr_in w hw))) (fun w hw => of_decide_eq_true (List.all_eq_true.mp thr_no w hw)) (fun w hw => va_Nw.use (nwM_tab w (List.mem_of_mem_drop hw)) (hT.2.2.1 w (List.mem_of_mem_drop hw)))
  · exact fun w hw => List.all_eq_true.mp thr_ot w hw
  · show 2 + 3 < R.frames
    omega
  · show 0 + (13 * (2 + 1) + 42) ≤ R.locals
    omega
  · omega
  · omega
  · intro t hW hz hq
    have hS1 : va_S (fun q => E.B ≤ q) s.heap t.heap locs := ⟨Nat.le_trans hS.1 (by omega), fun q q1 q2 => (hq q (Nat.lt_of_lt_of_le q1 hS.1)).trans (hS.2.1 q q1 q2), hS.2.2⟩
    have hR1 : Rep E (M.nw 99 0 6) t.heap := by
      refine nw_new hE hR hz hq ⟨fun r hr => ?_, fun h20 h25 => ?_⟩
      · rw [nw_k, if_pos rfl] at hr
        cases hr
      · rw [nw_k, if_pos rfl] at h25
        exact absurd h25 (by decide)
    exact ⟨rfl, rfl, ⟨hI i, wd_end hE hT hP hR1 hS1 rfl hW⟩, hS1.F rfl⟩
  · rw [en]; omega
  · rw [ew]; omega
theorem CtrX.of {l : Launch} {rv : α → Option Value} {vs : List Value} {o : Option (Option α × PM)} (hlt : l.stackTraces = false) (hpl : plainName y.cls = true) (hent : ((vs.map fun v => v.category).sum) ≤ nL) (body : ∀ G : JG, (gl G).stackTraces = false → JJ G cc y nL D ret I (finX G I rv) M 0 (ent vs nL) [] o) (hne : y.cls ≠ "TollOnVowelsLaw" := by decide +kernel) : CtrX l I y cc nL ret D rv vs M o := by
  intro r M1 ho
  refine ⟨fun G => ?_, fun E => ?_⟩
  · obtain ⟨p, _, e, R, s, m, args, below, meth, c, E, M0⟩ := G
    exact (body (p, l, e, R, s, m, args, below, meth, c, E, M0) hlt r M1 ho).1
  refine vx_ofW (cc := cc) (maxL := nL) (ret := ret) hpl rfl ?_
  intro p e s m args below meth c s₁ B hml hno hv
  obtain ⟨rfl, hI, hE, hT, hP, hR⟩ := hv
  have hET : c.exceptionTable.toList = ETof y := by
    rw [ETof, if_neg hne, List.eq_nil_iff_forall_not_mem.mpr hno]
  have hts := atoms_spec (ws := ws_ y cc nL ret) B.pre
  have hts : ∀ w ∈ lw_all, w.before _ s = true := fun w h => hts w (List.mem_cons_of_mem _ h)
  obtain ⟨hl, hent'⟩ := ent_lh E.ad vs nL hent
  have hb := (body (p, l, e, (headSpec (ws_ y cc nL ret) { frames := D, cells := M1.n - M.n, slots := M1.w - M.w, locals := 40 * D }).room, s, m, (vs.map (tr E.ad)).toArray, below, meth, c, E, M) hlt r M1 ho)
  have hw := hb.2 ⟨B.exec, B.bytes, hml, findClass_of_methodNamed B.named, hts, hE, hT, hP, B.notSynchronized, Nat.le_refl _, Nat.le_refl _, B.returns, (name_of_methodNamed B.named B.method).1, hET⟩ (by show M1.n ≤ M.n + (M1.n - M.n); omega) (by show M1.w ≤ M.w + (M1.w - M.w); omega) (Nat.le_refl _) (Nat.le_refl _) hI s.heap [] hl hR va_S.rf hent'.2
  rw [Nat.sub_self, Nat.sub_self] at hw
  rw [hent'.1 m]
  exact hw
end JEX
