/-! NEW CELLS, LIBRARY CALLS, RETURNS, CALLS, CONTRACTS over the pure memory -/
def imax (a b : Int32) : Int32 := if a < b then b else a
def imin (a b : Int32) : Int32 := if b < a then b else a
section JN
variable {α : Type} {G : JG} {cc : ByteArray} {y : MethodName} {nL D : Nat} {ret : Option FieldType} {I : PM → Prop} {fin : α → PM → State → Prop} {M : PM} {pc : Nat} {L : List (Option Value)} {S : List Value} {o o1 o2 : Option (α × PM)}
theorem up1_same {β : Type} {f : Nat → β} {a : Nat} {v : β} {b : Nat} (h : b ≠ a) : up1 f a v b = f b := if_neg h
theorem J_alloc {M' : PM} {pc' : Nat} {w0 : Nat} {S' : List Value} (hw : M'.n = M.n + 1 ∧ M'.w = M.w + w0) (hI : I M → I M')
    (h : ∀ (p : Program) (l : Launch) (e : Env) (R : Room) (s : State) (m : MethodId) (args : Array Value) (below : List Frame) (meth : Method) (c : Code) (E : En) (M0 : PM), Cx (p, l, e, R, s, m, args, below, meth, c, E, M0) cc y nL D ret → I M → ∀ (H : Heap) (locs : List Loc) (ls : Array Slot) (k n : Nat) (Q : State → Prop), k + 1 ≤ R.cells → n + w0 ≤ R.slots → lh E.ad ls nL L → va_S (fun q => E.B ≤ q) s.heap H locs → Rep E M H →
      (∀ H1 : Heap, Rep E M' H1 → H1.size = H.size + 1 → (∀ q : Nat, q < H.size → H1[q]? = H[q]?) → W p l e R s m args below meth c H1 locs (k + 1) (n + w0) Q (F0 m pc' ls (S'.map (tr E.ad)))) → W p l e R s m args below meth c H locs k n Q (F0 m pc ls (S.map (tr E.ad))))
    (k : JJ G cc y nL D ret I fin M' pc' L S' o) : JJ G cc y nL D ret I fin M pc L S o := by
  obtain ⟨p, l, e, R, s, m, args, below, meth, c, E, M0⟩ := G
  intro r Me ho
  obtain ⟨h1, h2⟩ := k r Me ho
  rw [hw.1, hw.2] at h1 h2
  refine ⟨by omega, fun cx a b u v i H locs ls hR hS hl => ?_⟩
  have := h p l e R s m args below meth c E M0 cx i H locs ls (M.n - M0.n) (M.w - M0.w) (fin r Me) (by omega) (by omega) hl hS hR (fun H1 hR1 z1 o1 => by
    have g := h2 cx a b (by omega) (by omega) (hI i) H1 locs ls hR1 ⟨Nat.le_trans hS.1 (by omega), fun q q1 q2 => (o1 q (Nat.lt_of_lt_of_le q1 hS.1)).trans (hS.2.1 q q1 q2), hS.2.2⟩ hl
    rw [show M.n + 1 - M0.n = M.n - M0.n + 1 by omega, show M.w + w0 - M0.w = M.w - M0.w + w0 by omega] at g
    exact g)
  exact this
theorem nw_new {E : En} {c len w : Nat} {H H1 : Heap} (hE : EOk E) (hR : Rep E M H) (hz : H1.size = H.size + 1) (oq : ∀ q : Nat, q < H.size → H1[q]? = H[q]?) (hc : cAt E (M.nw c len w) M.n H1) : Rep E (M.nw c len w) H1 :=
  hR.new hE rfl (fun a ha => by rw [nw_k, if_neg ha]) (fun a ha => by funext j; rw [nw_i, if_neg ha]) (fun a ha => by funext j; rw [nw_l, if_neg ha]) (fun a ha => by funext j; rw [nw_r, if_neg ha]) hz oq hc
/-- new -/
theorem J_new {c index : Nat} {C : String} {T : u_T} {N : Nat} (hc : vwCl[c]? = some (C, T, N)) (hin : ∀ w ∈ u_ws C T N, w ∈ lw_all) (hty : ∀ k, k < N → parseFieldDescriptor (T k).2.2.1 = some (fTy c k)) (hcl : Cond.classLink y.cls index C ∈ lw_all) (hins : Cond.instantiable C N ∈ lw_all) (hini : Cond.initialized C ∈ lw_all) (hdef : ∀ k, k < N → fTy c k = .int ∨ fTy c k = .boolean ∨ fTy c k = .char ∨ (∃ n, fTy c k = .object n) ∨ ∃ t, fTy c k = .array t)
    (hI : I M → I (M.nw c 0 N)) (d : decode cc pc = .ok (.new index, 3)) (kk : JJ G cc y nL D ret I fin (M.nw c 0 N) (pc + 3) L (.ref M.n :: S) o) : JJ G cc y nL D ret I fin M pc L S o := by
  have hc7 : c < 7 := (List.getElem?_eq_some_iff.mp hc).1
  refine J_alloc (M' := M.nw c 0 N) ⟨rfl, rfl⟩ hI (fun p l e R s m args below meth c0 E M0 cx hi0 H locs ls k0 n Q hk hn hl0 hS hR w => ?_) kk
  have hKn := cx.2.2.2.2.2.2.1.1.1 c _ hc
  refine W.newcK cx.1 cx.2.1 cx.2.2.2.1 (cx.2.2.2.2.1 _ hcl) (cx.2.2.2.2.1 _ hins) (cx.2.2.2.2.1 _ hini) rfl d hk hn hKn.2.1 rfl (fun H1 kC hkC e1 z1 o1 => ?_)
  have ht := hR.top cx.2.2.2.2.2.1
  have hrep : Rep E (M.nw c 0 N) H1 := by
    refine nw_new cx.2.2.2.2.2.1 hR z1 o1 ⟨fun r hr => ?_, fun h20 _ => ?_⟩
    · rw [nw_k, if_pos rfl] at hr ⊢
      cases hc.symm.trans hr
      rw [ht]
      refine (u_born (fTy c) cx.2.2.2.2.1 hin hKn hkC e1 hty).to (fun j hj => ?_)
      rcases hdef j hj with h | h | h | ⟨n, h⟩ | ⟨t, h⟩ <;> (rw [h]; simp [fv, nw_i, nw_r, defaultValue, va_rf])
    · rw [nw_k, if_pos rfl] at h20
      have h20 : 20 ≤ c := h20
      omega
  have g := w H1 hrep z1 o1
  rw [List.map_cons, show tr E.ad (.ref M.n) = .ref H.size by rw [← ht]; rfl] at g
  exact g
/-- newarray -/
theorem J_newa {atype : ArrayType} {c N : Nat} {n : Int32} (h20 : 20 ≤ c) (h25 : c < 24) (hty : newarray.typeOf atype = aTy c) (harr : Cond.arrayClass (aTy c) ∈ lw_all) (hn : ¬ n < 0) (hN : n.toNatClampNeg = N) (hb : N * componentBytes (aTy c) ≤ 536870912) (hdef : ∀ ad j, fv (aTy c) (M.nw c N N) ad M.n j = defaultValue (aTy c)) (hI : I M → I (M.nw c N N)) (d : decode cc pc = .ok (.newarray atype, 2)) (kk : JJ G cc y nL D ret I fin (M.nw c N N) (pc + 2) L (.ref M.n :: S) o) : JJ G cc y nL D ret I fin M pc L (.int n :: S) o := by
  refine J_alloc (M' := M.nw c N N) ⟨rfl, rfl⟩ hI (fun p l e R s m args below meth c0 E M0 cx hi0 H locs ls k0 n Q hk hn2 hl0 hS hR w => ?_) kk
  have ht := hR.top cx.2.2.2.2.2.1
  refine va_newaK cx.1 cx.2.1 (by rw [hty]; exact cx.2.2.2.2.1 _ harr) rfl d rfl hn hN (by rw [hty]; exact hb) hk hn2 rfl (fun H1 cA e1 z1 o1 hAr hNm => ?_)
  rw [hty] at e1 hNm
  have hcA : cA = E.a c := by
    have h := (cx.2.2.2.2.2.2.1.1.2 (c - 20) _ (tys_at E h20 (by omega))).2
    rcases (show c = 20 ∨ c = 21 ∨ c = 22 ∨ c = 23 by omega) with q | q | q | q <;> (subst q; exact Option.some.inj (hNm.symm.trans h))
  rw [hcA] at e1
  have hrep : Rep E (M.nw c N N) H1 := by
    refine nw_new cx.2.2.2.2.2.1 hR z1 o1 ⟨fun r hr => ?_, fun _ _ => ?_⟩
    · rw [nw_k, if_pos rfl] at hr
      have : vwCl.length ≤ c := by
        show 7 ≤ c
        omega
      rw [List.getElem?_eq_none this] at hr
      cases hr
    · rw [nw_k, if_pos rfl, ht]
      show H1[H.size]? = some (arrV (E.a c) N (fun j => fv (aTy c) (M.nw c N N) E.ad M.n j))
      rw [e1]
      congr 2
      funext j
      exact (hdef E.ad j).symm
  have g := w H1 hrep z1 o1
  rw [List.map_cons, show tr E.ad (.ref M.n) = .ref H.size by rw [← ht]; rfl] at g
  exact g
/-- new Road[n] -/
theorem J_anew {index N : Nat} {n : Int32} (hcl : Cond.classLink y.cls index "TollOnVowels$Road" ∈ lw_all) (hn : ¬ n < 0) (hN : n.toNatClampNeg = N) (hb : N * 4 ≤ 536870912) (hI : I M → I (M.nw 24 N N)) (d : decode cc pc = .ok (.anewarray index, 3)) (kk : JJ G cc y nL D ret I fin (M.nw 24 N N) (pc + 3) L (.ref M.n :: S) o) : JJ G cc y nL D ret I fin M pc L (.int n :: S) o := by
  refine J_alloc (M' := M.nw 24 N N) ⟨rfl, rfl⟩ hI (fun p l e R s m args below meth c0 E M0 cx hi0 H locs ls k0 n0 Q hk hn2 hl0 hS hR w => ?_) kk
  have ht := hR.top cx.2.2.2.2.2.1
  refine W.anew cx.1 cx.2.1 cx.2.2.2.1 (cx.2.2.2.2.1 _ hcl) (va_AO.use cx.2.2.2.2.2.2.1.2.2.2.2.1) rfl d rfl hn (by rw [hN]; exact hb) hk (by rw [hN]; exact hn2) (fun cA kA comp f1 f2 f3 f4 => ?_)
  rw [hN]
  generalize hH1 : H.push ({ cls := cA, slots := Array.replicate N .null, vm := .none } : Cell) = H1
  have z1 : H1.size = H.size + 1 := by rw [← hH1, Array.size_push]
  have e1 : H1[H.size]? = some (arrV cA N (fun _ => .null)) := by rw [← hH1, Array.getElem?_push_size, ← arrV_new]
  have o1 : ∀ q : Nat, q < H.size → H1[q]? = H[q]? := fun q hq => by rw [← hH1, Array.getElem?_push, if_neg (Nat.ne_of_lt hq)]
  have hcA : cA = E.a 24 := by
    obtain ⟨kA', comp', k1, k2, k3, k4⟩ := (cx.2.2.2.2.2.2.1.1.2 4 _ (tys_at E (c := 24) (by omega) (by omega))).2
    exact Option.some.inj (f1.symm.trans k4)
  rw [hcA] at e1
  have hrep : Rep E (M.nw 24 N N) H1 := by
    refine nw_new cx.2.2.2.2.2.1 hR z1 o1 ⟨fun r hr => ?_, fun _ _ => ?_⟩
    · rw [nw_k, if_pos rfl] at hr
      cases hr
    · rw [nw_k, if_pos rfl, ht]
      show H1[H.size]? = some (arrV (E.a 24) N (fun j => va_rf (((M.nw 24 N N).r M.n j).map E.ad)))
      rw [e1]
      congr 2
      funext j
      rw [nw_r, if_pos rfl]
      rfl
  have g := w H1 hrep z1 o1
  rw [List.map_cons, show tr E.ad (.ref M.n) = .ref H.size by rw [← ht]; rfl] at g
  exact g
/-- Object's constructor -/
theorem J_obj {a index : Nat} (hD : 1 ≤ D) (hl1 : Cond.methodLink y.cls index Lib.objectInit ∈ lw_all) (hl2 : Cond.instanceMethod Lib.objectInit ∈ lw_all) (hl3 : Cond.code Lib.objectInit ⟨#[0xb1]⟩ 1 none ∈ lw_all) (hS8 : (S.map fun v => v.category).sum ≤ 8) (d : decode cc pc = .ok (.invokespecial index, 3)) (kk : JJ G cc y nL D ret I fin M (pc + 3) L S o) : JJ G cc y nL D ret I fin M pc L (.ref a :: S) o :=
  J_lift (fun p l e R s m args below meth c0 E M0 _ cx H locs ls k0 n Q _ _ hl _ hR hI w => by
    have h1 : D ≤ R.frames := cx.2.2.2.2.2.2.2.2.2.1
    have h2 : 40 * D ≤ R.locals := cx.2.2.2.2.2.2.2.2.2.2.1
    refine W.objInit (g := F0 m pc ls ((Value.ref a :: S).map (tr E.ad))) cx.1 cx.2.1 cx.2.2.2.1 (cx.2.2.2.2.1 _ hl1) (cx.2.2.2.2.1 _ hl2) (cx.2.2.2.2.1 _ hl3) rfl (by rw [cx.2.2.1]; exact hl.1) rfl d (by omega) ?_ (w ls hl)
    show 2 * 0 + ((S.map (tr E.ad)).map fun v => v.category).sum + 12 ≤ R.locals
    rw [tr_cats]
    omega) kk
theorem J_max {index : Nat} {a b : Int32} (hD : 1 ≤ D) (h1 : Cond.methodLink y.cls index Lib.Math.max.name ∈ lw_all) (h2 : Cond.static Lib.Math.max.name ∈ lw_all) (h3 : Cond.initialized "java/lang/Math" ∈ lw_all) (h4 : Cond.code Lib.Math.max.name Lib.Math.max.code 2 (some .int) ∈ lw_all) (hS8 : (S.map fun v => v.category).sum ≤ 8) (d : decode cc pc = .ok (.invokestatic index, 3)) (kk : JJ G cc y nL D ret I fin M (pc + 3) L (.int (imax a b) :: S) o) : JJ G cc y nL D ret I fin M pc L (.int b :: .int a :: S) o :=
  J_lift (fun p l e R s m args below meth c0 E M0 _ cx H locs ls k0 n Q hk hn hl _ hR hI w => by
    have f1 : D ≤ R.frames := cx.2.2.2.2.2.2.2.2.2.1
    have f2 : 40 * D ≤ R.locals := cx.2.2.2.2.2.2.2.2.2.2.1
    refine va_mmax cx.1 cx.2.1 (by rw [cx.2.2.1, hl.1]) cx.2.2.2.1 (cx.2.2.2.2.1 _ h1) (cx.2.2.2.2.1 _ h2) (cx.2.2.2.2.1 _ h3) (cx.2.2.2.2.1 _ h4) (by omega) ?_ hk hn d (w ls hl)
    rw [tr_cats]
    omega) kk
theorem J_min {index : Nat} {a b : Int32} (hD : 1 ≤ D) (h1 : Cond.methodLink y.cls index Lib.Math.min.name ∈ lw_all) (h2 : Cond.static Lib.Math.min.name ∈ lw_all) (h3 : Cond.initialized "java/lang/Math" ∈ lw_all) (h4 : Cond.code Lib.Math.min.name Lib.Math.min.code 2 (some .int) ∈ lw_all) (hS8 : (S.map fun v => v.category).sum ≤ 8) (d : decode cc pc = .ok (.invokestatic index, 3)) (kk : JJ G cc y nL D ret I fin M (pc + 3) L (.int (imin a b) :: S) o) : JJ G cc y nL D ret I fin M pc L (.int b :: .int a :: S) o :=
  J_lift (fun p l e R s m args below meth c0 E M0 _ cx H locs ls k0 n Q hk hn hl _ hR hI w => by
    have f1 : D ≤ R.frames := cx.2.2.2.2.2.2.2.2.2.1
    have f2 : 40 * D ≤ R.locals := cx.2.2.2.2.2.2.2.2.2.2.1
    refine va_mmin cx.1 cx.2.1 (by rw [cx.2.2.1, hl.1]) cx.2.2.2.1 (cx.2.2.2.2.1 _ h1) (cx.2.2.2.2.1 _ h2) (cx.2.2.2.2.1 _ h3) (cx.2.2.2.2.1 _ h4) (by omega) ?_ hk hn d (w ls hl)
    rw [tr_cats]
    omega) kk
end JN
/-! returns -/
def QcR {α : Type} (E : En) (I : PM → Prop) (rv : α → Option Value) (r : α) (Me : PM) : Array Value → State → Outcome → State → Prop := fun _ st oc t => (oc = .returned ((rv r).map (tr E.ad)) ∧ I Me ∧ Wd E Me t) ∧ va_F (fun q => E.B ≤ q) st t
def finR {α : Type} (G : JG) (I : PM → Prop) (rv : α → Option Value) : α → PM → State → Prop := match G with
  | (_, _, _, _, s, _, args, below, _, _, E, M0) => fun r Me => MQ below (QcR E I rv r Me) args s (Me.n - M0.n) (Me.w - M0.w) (fun q => E.B ≤ q)
def rvI (v : Int32) : Option Value := some (.int v)
def rvL (v : Int64) : Option Value := some (.long v)
def rvU (_ : Unit) : Option Value := none
def rvR (v : Option Nat) : Option Value := some (va_rf v)
section JE
variable {α : Type} {G : JG} {cc : ByteArray} {y : MethodName} {nL D : Nat} {ret : Option FieldType} {I : PM → Prop} {M : PM} {pc : Nat} {L : List (Option Value)} {S : List Value}
theorem wd_end {E : En} {s t : State} {H : Heap} {locs : List Loc} (hE : EOk E) (hT : Tb E s) (hP : Pic E s s.heap) (hR : Rep E M H) (hS : va_S (fun q => E.B ≤ q) s.heap H locs) (ht : t.heap = H) (hW : s.WarmedH t.vm) : Wd E M t := by
  refine ⟨hE, Tb.warm hW hT, ?_, by rw [ht]; exact hR⟩
  rw [ht]
  exact Pic.moved hW.alike (hP.kept hS.2.1)
theorem J_iret {v : Int32} (d : decode cc pc = .ok (.ireturn, 1)) : JJ G cc y nL D (some .int) I (finR G I rvI) M pc L [.int v] (some (v, M)) := by
  obtain ⟨p, l, e, R, s, m, args, below, meth, c, E, M0⟩ := G
  intro r Me ho
  cases ho
  exact ⟨⟨Nat.le_refl _, Nat.le_refl _⟩, fun cx a b u w i H locs ls hR hS hl => W.iret cx.1 cx.2.1 cx.2.2.2.2.2.2.2.2.2.2.2.1 (fun t ht hW => ⟨⟨rfl, i, wd_end cx.2.2.2.2.2.1 cx.2.2.2.2.2.2.1 cx.2.2.2.2.2.2.2.1 hR hS ht hW⟩, hS.F ht⟩) hS.2.2 d cx.2.2.2.2.2.2.2.2.1⟩
theorem J_zret {v : Int32} (hv : narrow .boolean (.int v) = .int v) (d : decode cc pc = .ok (.ireturn, 1)) : JJ G cc y nL D (some .boolean) I (finR G I rvI) M pc L [.int v] (some (v, M)) := by
  obtain ⟨p, l, e, R, s, m, args, below, meth, c, E, M0⟩ := G
  intro r Me ho
  cases ho
  exact ⟨⟨Nat.le_refl _, Nat.le_refl _⟩, fun cx a b u w i H locs ls hR hS hl => W.zret cx.1 cx.2.1 cx.2.2.2.2.2.2.2.2.2.2.2.1 hv (fun t ht hW => ⟨⟨rfl, i, wd_end cx.2.2.2.2.2.1 cx.2.2.2.2.2.2.1 cx.2.2.2.2.2.2.2.1 hR hS ht hW⟩, hS.F ht⟩) hS.2.2 d cx.2.2.2.2.2.2.2.2.1⟩
theorem J_zretT {v : Int32} {ty : FieldType} (hv : narrow ty (.int v) = .int v) (d : decode cc pc = .ok (.ireturn, 1)) : JJ G cc y nL D (some ty) I (finR G I rvI) M pc L [.int v] (some (v, M)) := by
  obtain ⟨p, l, e, R, s, m, args, below, meth, c, E, M0⟩ := G
  intro r Me ho
  cases ho
  exact ⟨⟨Nat.le_refl _, Nat.le_refl _⟩, fun cx a b u w i H locs ls hR hS hl => W.zret cx.1 cx.2.1 cx.2.2.2.2.2.2.2.2.2.2.2.1 hv (fun t ht hW => ⟨⟨rfl, i, wd_end cx.2.2.2.2.2.1 cx.2.2.2.2.2.2.1 cx.2.2.2.2.2.2.2.1 hR hS ht hW⟩, hS.F ht⟩) hS.2.2 d cx.2.2.2.2.2.2.2.2.1⟩
theorem J_lret {v : Int64} (d : decode cc pc = .ok (.lreturn, 1)) : JJ G cc y nL D (some .long) I (finR G I rvL) M pc L [.long v] (some (v, M)) := by
  obtain ⟨p, l, e, R, s, m, args, below, meth, c, E, M0⟩ := G
  intro r Me ho
  cases ho
  exact ⟨⟨Nat.le_refl _, Nat.le_refl _⟩, fun cx a b u w i H locs ls hR hS hl => W.lret cx.1 cx.2.1 cx.2.2.2.2.2.2.2.2.2.2.2.1 (fun t ht hW => ⟨⟨rfl, i, wd_end cx.2.2.2.2.2.1 cx.2.2.2.2.2.2.1 cx.2.2.2.2.2.2.2.1 hR hS ht hW⟩, hS.F ht⟩) hS.2.2 d cx.2.2.2.2.2.2.2.2.1⟩
theorem J_ret (d : decode cc pc = .ok (.return_, 1)) : JJ G cc y nL D none I (finR G I rvU) M pc L [] (some ((), M)) := by
  obtain ⟨p, l, e, R, s, m, args, below, meth, c, E, M0⟩ := G
  intro r Me ho
  cases ho
  exact ⟨⟨Nat.le_refl _, Nat.le_refl _⟩, fun cx a b u w i H locs ls hR hS hl => W.vret cx.1 cx.2.1 cx.2.2.2.2.2.2.2.2.2.2.2.1 (fun t ht hW => ⟨⟨rfl, i, wd_end cx.2.2.2.2.2.1 cx.2.2.2.2.2.2.1 cx.2.2.2.2.2.2.2.1 hR hS ht hW⟩, hS.F ht⟩) hS.2.2 d cx.2.2.2.2.2.2.2.2.1⟩
theorem J_aret {C : String} {v : Option Nat} (d : decode cc pc = .ok (.areturn, 1)) : JJ G cc y nL D (some (.object C)) I (finR G I rvR) M pc L [va_rf v] (some (v, M)) := by
  obtain ⟨p, l, e, R, s, m, args, below, meth, c, E, M0⟩ := G
  intro r Me ho
  cases ho
  refine ⟨⟨Nat.le_refl _, Nat.le_refl _⟩, fun cx a b u w i H locs ls hR hS hl => ?_⟩
  show W p l e R s m args below meth c H locs _ _ _ (F0 m pc ls [tr E.ad (va_rf v)])
  refine W.aret cx.1 cx.2.1 cx.2.2.2.2.2.2.2.2.2.2.2.1 (Or.inl ⟨C, rfl⟩) ?_ (fun t ht hW => ⟨⟨rfl, i, wd_end cx.2.2.2.2.2.1 cx.2.2.2.2.2.2.1 cx.2.2.2.2.2.2.2.1 hR hS ht hW⟩, hS.F ht⟩) hS.2.2 d cx.2.2.2.2.2.2.2.2.1
  cases v with
  | none => exact Or.inl rfl
  | some q => exact Or.inr ⟨_, rfl⟩
end JE
/-! contracts -/
def Ctr {α : Type} (l : Launch) (I : PM → Prop) (y : MethodName) (cc : ByteArray) (nL : Nat) (ret : Option FieldType) (D : Nat) (rv : α → Option Value) (vs : List Value) (M : PM) (o : Option (α × PM)) : Prop :=
  ∀ (r : α) (M1 : PM), o = some (r, M1) → (JG → M.n ≤ M1.n ∧ M.w ≤ M1.w) ∧ ∀ E : En, Met l y (ws_ y cc nL ret) { frames := D, cells := M1.n - M.n, slots := M1.w - M.w, locals := 40 * D } (va_Pc (vs.map (tr E.ad)) (fun U => I M ∧ Wd E M U)) (QcR E I rv r M1) (M1.n - M.n) (M1.w - M.w) (fun q => E.B ≤ q)
theorem Ctr.of {α : Type} {l : Launch} {I : PM → Prop} {y : MethodName} {cc : ByteArray} {nL D : Nat} {ret : Option FieldType} {rv : α → Option Value} {vs : List Value} {M : PM} {o : Option (α × PM)} (hpl : plainName y.cls = true) (hent : ((vs.map fun v => v.category).sum) ≤ nL) (body : ∀ G : JG, JJ G cc y nL D ret I (finR G I rv) M 0 (ent vs nL) [] o) (hne : y.cls ≠ "TollOnVowelsLaw" := by decide +kernel) : Ctr l I y cc nL ret D rv vs M o := by
  intro r M1 ho
  refine ⟨fun G => ?_, fun E => ?_⟩
  · obtain ⟨p, l, e, R, s, m, args, below, meth, c, E, M0⟩ := G
    exact (body (p, l, e, R, s, m, args, below, meth, c, E, M0) r M1 ho).1
  · refine Met.ofW (cc := cc) (maxL := nL) (ret := ret) hpl rfl ?_
    intro p e s m args below meth c s₁ B hml hv
    obtain ⟨rfl, hI, hE, hT, hP, hR⟩ := hv
    have hET : c.exceptionTable.toList = ETof y := by
      obtain ⟨meth9, c9, g1, g2, -, -, -, -, g7, -⟩ := Cond.code_spec B.named (atoms_spec (ws := ws_ y cc nL ret) B.pre _ List.mem_cons_self)
      cases Option.some.inj (g1.symm.trans B.method)
      cases Option.some.inj (g2.symm.trans (Stand.of_body B).code)
      rw [ETof, if_neg hne, Array.isEmpty_iff.mp g7]
    have hts := atoms_spec (ws := ws_ y cc nL ret) B.pre
    have hts : ∀ w ∈ lw_all, w.before _ s = true := fun w h => hts w (List.mem_cons_of_mem _ h)
    have hlen : (lg_sl (vs.map (tr E.ad))).length ≤ nL := by
      have e1 : ∀ ws : List Value, (lg_sl ws).length = (ws.map fun v => v.category).sum := by
        intro ws
        induction ws with
        | nil => rfl
        | cons v ws ih =>
          have : lg_sl (v :: ws) = lg_sl [v] ++ lg_sl ws := by simp [lg_sl]
          rw [this, List.length_append, ih, List.map_cons, List.sum_cons]
          congr 1
          cases v <;> rfl
      rw [e1, tr_cats]
      exact hent
    have hl := lv_entry (vs.map (tr E.ad)) (n := nL) hlen
    rw [lg_entry_eq]
    generalize (lg_sl (vs.map (tr E.ad)) ++ List.replicate (nL - (lg_sl (vs.map (tr E.ad))).length) Slot.unset).toArray = ls at hl ⊢
    have hb := (body (p, l, e, (headSpec (ws_ y cc nL ret) { frames := D, cells := M1.n - M.n, slots := M1.w - M.w, locals := 40 * D }).room, s, m, (vs.map (tr E.ad)).toArray, below, meth, c, E, M) r M1 ho)
    have hw := hb.2 ⟨B.exec, B.bytes, hml, findClass_of_methodNamed B.named, hts, hE, hT, hP, B.notSynchronized, Nat.le_refl _, Nat.le_refl _, B.returns, (name_of_methodNamed B.named B.method).1, hET⟩ (by show M1.n ≤ M.n + (M1.n - M.n); omega) (by show M1.w ≤ M.w + (M1.w - M.w); omega) (Nat.le_refl _) (Nat.le_refl _) hI s.heap [] ls hR va_S.rf ⟨hl.1, hl.2.1, fun j w hj => hl.2.2 (j, tr E.ad w) (by have := ent_get E.ad vs nL 0 j w hj; rwa [Nat.zero_add] at this)⟩
    rw [Nat.sub_self, Nat.sub_self] at hw
    exact hw
section JC
variable {α : Type} {G : JG} {cc : ByteArray} {y : MethodName} {nL D : Nat} {ret : Option FieldType} {I : PM → Prop} {fin : α → PM → State → Prop} {M : PM} {pc : Nat} {L : List (Option Value)} {S S0 : List Value} {o : Option (α × PM)}
variable {β : Type} {C : String} {index : Nat} {y' : MethodName} {cc' : ByteArray} {nL' D' : Nat} {ret' : Option FieldType} {rv : β → Option Value} {b : Nat} {vs : List Value} {oc : Option (β × PM)} {f : β → PM → Option (α × PM)}
/-- a call, whatever its kind: the run is given -/
theorem J_callX {vs0 : List Value} (hC : ∀ l, Ctr l I y' cc' nL' ret' D' rv vs0 M oc)
    (run : ∀ (p : Program) (l : Launch) (e : Env) (R : Room) (s : State) (m : MethodId) (args : Array Value) (below : List Frame) (meth : Method) (c : Code) (E : En) (M0 : PM), Cx (p, l, e, R, s, m, args, below, meth, c, E, M0) cc y nL D ret → I M → ∀ (H : Heap) (locs : List Loc) (ls : Array Slot) (k n : Nat) (r1 : β) (M1 : PM), M.n ≤ M1.n → M.w ≤ M1.w → k + (M1.n - M.n) ≤ R.cells → n + (M1.w - M.w) ≤ R.slots → lh E.ad ls nL L → va_S (fun q => E.B ≤ q) s.heap H locs → Rep E M H →
      Met l y' (ws_ y' cc' nL' ret') { frames := D', cells := M1.n - M.n, slots := M1.w - M.w, locals := 40 * D' } (va_Pc (vs0.map (tr E.ad)) (fun U => I M ∧ Wd E M U)) (QcR E I rv r1 M1) (M1.n - M.n) (M1.w - M.w) (fun q => E.B ≤ q) → FrameBlind (va_Pc (vs0.map (tr E.ad)) (fun U => I M ∧ Wd E M U)) → (∀ U : State, U.heap = H → s.WarmedH U.vm → va_Pc (vs0.map (tr E.ad)) (fun U => I M ∧ Wd E M U) (vs0.map (tr E.ad)).toArray U) →
      va_Run p l e R s m args below meth c H locs k n (M1.n - M.n) (M1.w - M.w) (F0 m pc ls (S0.map (tr E.ad))) (S.map (tr E.ad)) (QcR E I rv r1 M1 (vs0.map (tr E.ad)).toArray) (fun q => E.B ≤ q))
    (k : ∀ r1 M1, JJ G cc y nL D ret I fin M1 (pc + 3) L ((rv r1).toList ++ S) (f r1 M1)) : JJ G cc y nL D ret I fin M pc L S0 (bd oc f) := by
  have hG := G
  obtain ⟨p, l, e, R, s, m, args, below, meth, c, E, M0⟩ := G
  intro r Me ho
  cases hoc : oc with
  | none => rw [hoc] at ho; cases ho
  | some q =>
    obtain ⟨r1, M1⟩ := q
    rw [hoc] at ho
    obtain ⟨h1, h2⟩ := hC l r1 M1 hoc
    have g1 := h1 hG
    obtain ⟨k1, k2⟩ := k r1 M1 r Me ho
    refine ⟨⟨Nat.le_trans g1.1 k1.1, Nat.le_trans g1.2 k1.2⟩, fun cx a b u v i H locs ls hR hS hl => ?_⟩
    have hrun := run p l e R s m args below meth c E M0 cx i H locs ls (M.n - M0.n) (M.w - M0.w) r1 M1 g1.1 g1.2 (by omega) (by omega) hl hS hR (h2 E) (fun a U g mk q => ⟨q.1, q.2.1, q.2.2.blind g mk a⟩)
      (fun U hU hW => ⟨rfl, i, wd_end cx.2.2.2.2.2.1 cx.2.2.2.2.2.2.1 cx.2.2.2.2.2.2.2.1 hR hS hU hW⟩)
    intro T hT X
    obtain ⟨v0, st₀, t, T', Lc, h0, X', hL, e1, e2, ⟨⟨hv0, hI1, hW1⟩, hF⟩, st⟩ := hrun T hT X
    cases hv0
    have hR1 : Rep E M1 T'.heap := by rw [e1]; exact hW1.2.2.2
    have hS1 : va_S (fun q => E.B ≤ q) s.heap T'.heap (locs ++ Lc) := by
      rw [va_F, h0, ← e1] at hF
      refine ⟨Nat.le_trans hS.1 hF.1, fun q q1 q2 => (hF.2 q (Nat.lt_of_lt_of_le q1 hS.1) q2).trans (hS.2.1 q q1 q2), fun z hz => ?_⟩
      rcases List.mem_append.mp hz with h | h
      · exact hS.2.2 z h
      · exact hL z h
    rw [show M.n - M0.n + (M1.n - M.n) = M1.n - M0.n by omega, show M.w - M0.w + (M1.w - M.w) = M1.w - M0.w by omega] at X'
    obtain ⟨t2, a1, b1⟩ := k2 cx a b (by omega) (by omega) hI1 T'.heap (locs ++ Lc) ls hR1 hS1 hl T' rfl X'
    refine ⟨t2, st t2 ?_, b1⟩
    have e3 : ((rv r1).toList ++ S).map (tr E.ad) = ((rv r1).map (tr E.ad)).toList ++ S.map (tr E.ad) := by
      cases rv r1 <;> rfl
    rw [e3] at a1
    exact a1
theorem call_room {R : Room} {s : Nat} (hD : D' + 1 ≤ D) (hL : nL' ≤ 20) (h1 : D ≤ R.frames) (h2 : 40 * D ≤ R.locals) : D' + 1 ≤ R.frames ∧ 8 + (nL' + 11) + 40 * D' ≤ R.locals := by omega
/-- invokevirtual -/
theorem J_callV {n ci : Nat} {T : u_T} {N : Nat} (hC : ∀ l, Ctr l I y' cc' nL' ret' D' rv (.ref b :: vs) M oc) (hw : GoodIn lw_all (wsV y.cls index C y' (ws_ y' cc' nL' ret'))) (hd : y'.cls = C ∧ y'.cls ≠ "java/lang/invoke/MethodHandle" ∧ y'.cls ≠ "java/lang/invoke/VarHandle" ∧ (parseMethodDescriptor y'.desc).map (fun d => d.parameters.length) = some n) (hn : vs.length = n) (hD : D' + 1 ≤ D) (hL : nL' ≤ 20)
    (hc : vwCl[ci]? = some (C, T, N)) (ha : I M → (M.k b).1 = ci) (hS0 : S0 = vs.reverse ++ .ref b :: S) (hS8 : (S.map fun v => v.category).sum ≤ 8) (d : decode cc pc = .ok (.invokevirtual index, 3)) (k : ∀ r1 M1, JJ G cc y nL D ret I fin M1 (pc + 3) L ((rv r1).toList ++ S) (f r1 M1)) : JJ G cc y nL D ret I fin M pc L S0 (bd oc f) := by
  refine J_callX hC (fun p l e R s m args below meth c E M0 cx hi H locs ls k0 n0 r1 M1 l1 l2 l3 l4 hl hS hR hM hbl hpre => ?_) k
  have hob := ob_of hR (ha hi) hc
  have hK := cx.2.2.2.2.2.2.1.1
  refine va_runV (As := vs.map (tr E.ad)) (b := E.ad b) ⟨cx.1, cx.2.1, cx.2.2.1, cx.2.2.2.1, cx.2.2.2.2.1⟩ hM (cwV n cx.2.2.2.2.1 hw rfl rfl rfl hd (call_room (s := 0) hD hL cx.2.2.2.2.2.2.2.2.2.1 cx.2.2.2.2.2.2.2.2.2.2.1)) ⟨hbl, ?_, hpre⟩ rfl (by rw [List.length_map]; exact hn) hl.1 ?_ (lv_room (by rw [tr_cats]; exact hS8)) d ⟨l3, l4⟩
  · obtain ⟨cell, g1, g2, g3, -⟩ := hob
    exact ⟨cell, g1, by rw [g3]; rfl, by rw [g2]; exact (hK.1 ci _ hc).2.1⟩
  · show S0.map (tr E.ad) = _
    rw [hS0, List.map_append, List.map_reverse]
    rfl
/-- invokestatic -/
theorem J_callS {n : Nat} (hC : ∀ l, Ctr l I y' cc' nL' ret' D' rv vs M oc) (hw : GoodIn lw_all (va_wsS y.cls index y' (ws_ y' cc' nL' ret'))) (hd : y'.cls ≠ "java/lang/invoke/MethodHandle" ∧ y'.cls ≠ "java/lang/invoke/VarHandle" ∧ (parseMethodDescriptor y'.desc).map (fun d => d.parameters.length) = some n) (hn : vs.length = n) (hD : D' + 1 ≤ D) (hL : nL' ≤ 20)
    (hS0 : S0 = vs.reverse ++ S) (hS8 : (S.map fun v => v.category).sum ≤ 8) (d : decode cc pc = .ok (.invokestatic index, 3)) (k : ∀ r1 M1, JJ G cc y nL D ret I fin M1 (pc + 3) L ((rv r1).toList ++ S) (f r1 M1)) : JJ G cc y nL D ret I fin M pc L S0 (bd oc f) := by
  refine J_callX hC (fun p l e R s m args below meth c E M0 cx hi H locs ls k0 n0 r1 M1 l1 l2 l3 l4 hl hS hR hM hbl hpre => ?_) k
  refine va_runS (As := vs.map (tr E.ad)) ⟨cx.1, cx.2.1, cx.2.2.1, cx.2.2.2.1, cx.2.2.2.2.1⟩ hM (va_cwS n cx.2.2.2.2.1 hw rfl rfl rfl hd (call_room (s := 0) hD hL cx.2.2.2.2.2.2.2.2.2.1 cx.2.2.2.2.2.2.2.2.2.2.1)) ⟨hbl, hpre⟩ rfl (by rw [List.length_map]; exact hn) hl.1 ?_ (lv_room (by rw [tr_cats]; exact hS8)) d ⟨l3, l4⟩
  show S0.map (tr E.ad) = _
  rw [hS0, List.map_append, List.map_reverse]
/-- a constructor's call -/
theorem J_callI {n : Nat} (hC : ∀ l, Ctr l I y' cc' nL' none D' rv (.ref b :: vs) M oc) (hw : GoodIn lw_all (ws_ y' cc' nL' none)) (h1 : Cond.initialized y'.cls ∈ lw_all) (h2 : Cond.methodLink y.cls index y' ∈ lw_all) (h3 : Cond.instanceMethod y' ∈ lw_all) (hy : y'.name = "<init>") (hd : y'.cls ≠ "java/lang/invoke/MethodHandle" ∧ y'.cls ≠ "java/lang/invoke/VarHandle" ∧ (parseMethodDescriptor y'.desc).map (fun d => d.parameters.length) = some n) (hn : vs.length = n) (hD : D' + 1 ≤ D) (hL : nL' ≤ 20)
    (hS0 : S0 = vs.reverse ++ .ref b :: S) (hS8 : (S.map fun v => v.category).sum ≤ 8) (d : decode cc pc = .ok (.invokespecial index, 3)) (k : ∀ r1 M1, JJ G cc y nL D ret I fin M1 (pc + 3) L ((rv r1).toList ++ S) (f r1 M1)) : JJ G cc y nL D ret I fin M pc L S0 (bd oc f) := by
  refine J_callX hC (fun p l e R s m args below meth c E M0 cx hi H locs ls k0 n0 r1 M1 l1 l2 l3 l4 hl hS hR hM hbl hpre => ?_) k
  refine va_runI (As := vs.map (tr E.ad)) (b := E.ad b) ⟨cx.1, cx.2.1, cx.2.2.1, cx.2.2.2.1, cx.2.2.2.2.1⟩ hM (cwI n cx.2.2.2.2.1 hw rfl rfl rfl (cx.2.2.2.2.1 _ h1) (cx.2.2.2.2.1 _ h2) (cx.2.2.2.2.1 _ h3) hy hd (call_room (s := 0) hD hL cx.2.2.2.2.2.2.2.2.2.1 cx.2.2.2.2.2.2.2.2.2.2.1)) ⟨hbl, hpre⟩ rfl (by rw [List.length_map]; exact hn) hl.1 ?_ (lv_room (by rw [tr_cats]; exact hS8)) d ⟨l3, l4⟩
  show S0.map (tr E.ad) = _
  rw [hS0, List.map_append, List.map_reverse]
  rfl
/-- a nest mate's constructor -/
theorem J_callIN {n : Nat} {host : String} (hC : ∀ l, Ctr l I y' cc' nL' none D' rv (.ref b :: vs) M oc) (hw : GoodIn lw_all (ws_ y' cc' nL' none)) (h1 : Cond.initialized y'.cls ∈ lw_all) (h2 : Cond.methodLinkNest y.cls index y' host ∈ nwM) (h3 : Cond.instanceMethod y' ∈ lw_all) (hy : y'.name = "<init>") (hd : y'.cls ≠ "java/lang/invoke/MethodHandle" ∧ y'.cls ≠ "java/lang/invoke/VarHandle" ∧ (parseMethodDescriptor y'.desc).map (fun d => d.parameters.length) = some n) (hn : vs.length = n) (hD : D' + 1 ≤ D) (hL : nL' ≤ 20)
    (hS0 : S0 = vs.reverse ++ .ref b :: S) (hS8 : (S.map fun v => v.category).sum ≤ 8) (d : decode cc pc = .ok (.invokespecial index, 3)) (k : ∀ r1 M1, JJ G cc y nL D ret I fin M1 (pc + 3) L ((rv r1).toList ++ S) (f r1 M1)) : JJ G cc y nL D ret I fin M pc L S0 (bd oc f) := by
  refine J_callX hC (fun p l e R s m args below meth c E M0 cx hi H locs ls k0 n0 r1 M1 l1 l2 l3 l4 hl hS hR hM hbl hpre => ?_) k
  refine va_runIN (As := vs.map (tr E.ad)) (b := E.ad b) ⟨cx.1, cx.2.1, cx.2.2.1, cx.2.2.2.1, cx.2.2.2.2.1⟩ hM ⟨va_cnB n cx.2.2.2.2.1 hw rfl rfl rfl (cx.2.2.2.2.2.2.1.2.2.1 _ h2) (cx.2.2.2.2.1 _ h1) hd (call_room (s := 0) hD hL cx.2.2.2.2.2.2.2.2.2.1 cx.2.2.2.2.2.2.2.2.2.2.1), hy, cx.2.2.2.2.1 _ h3⟩ ⟨hbl, hpre⟩ rfl (by rw [List.length_map]; exact hn) hl.1 ?_ (lv_room (by rw [tr_cats]; exact hS8)) d ⟨l3, l4⟩
  show S0.map (tr E.ad) = _
  rw [hS0, List.map_append, List.map_reverse]
  rfl
end JC
