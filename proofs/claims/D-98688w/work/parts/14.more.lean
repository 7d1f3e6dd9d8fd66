/-! MORE ROWS: wide text constants, null references in locals, arraycopy -/
section WY
variable {p : Program} {l : Launch} {e : Env} {R : Room} {s : State} {m : MethodId} {args : Array Value} {below : List Frame} {meth : Method} {c : Code} {H : Heap} {locs : List Loc} {cells slots : Nat} {Q : State → Prop}
theorem wy_ldcwS {cc : ByteArray} {pc : Nat} {ls : Array Slot} {rest : List Value} (hexec : p.tables.exec = Jvm.exec) (hb : c.code = cc) {own tx : String} {index q : Nat} (hown : s.vm.findClass own = some m.cls) (hZ : vk_R own index tx q s) (hdg : decode cc pc = .ok (.ldc_w index, 3))
    (k : W p l e R s m args below meth c H locs cells slots Q (F0 m (pc + 3) ls (.ref q :: rest))) : W p l e R s m args below meth c H locs cells slots Q (F0 m pc ls rest) := by
  intro T hT X
  obtain ⟨t, a1, b1⟩ := k T hT X
  refine ⟨t, ?_, b1⟩
  obtain ⟨k0, cf, i, a', hk, hcf, hcp, -, hr, hev'⟩ := Cond.stringRef_spec hown hZ.1
  cases hZ.2.symm.trans hev'
  obtain ⟨k', hk', he⟩ := X.warmed.alike.2.2 _ _ hk
  have hr' : k'.resolved[index]? = some (some (.string q)) := by
    rcases X.warmed.entry hk hk' index with h | ⟨h, -⟩
    · rw [h]; exact hr
    · rw [hr] at h; cases h
  jvm_step X.here [hexec, hb, hdg, ldc_w.wp_string (e := e) (s := T) (f := F0 m pc ls rest) X.here.top hk' (by rw [he]; exact hcf) hcp hr']
  exact a1
/-- System.arraycopy of ints between two int arrays -/
theorem wy_copyi {cc : ByteArray} {pc : Nat} {ls : Array Slot} {rest : List Value} {D : va_G} {cl : List vw_C} {tys : List (ClassId × FieldType)} (hexec : p.tables.exec = Jvm.exec) (hb : c.code = cc) (hml : c.maxLocals = ls.size) {own : String} {index : Nat} (hown : s.vm.findClass own = some m.cls) (hlink : (Cond.methodLink own index arraycopyName).before args s = true) (hnat : (Cond.native arraycopyName).before args s = true) (hstat : (Cond.static arraycopyName).before args s = true) (hini : (Cond.initialized "java/lang/System").before args s = true)
    (hK : va_K D cl tys s) {t0 : Nat} {a0 a : Nat} {cA : ClassId} {n0 n1 : Nat} {f g : Nat → Int32} (ha0 : H[a0]? = some (arrV cA n0 (fun j => .int (f j)))) (ha1 : H[a]? = some (arrV cA n1 (fun j => .int (g j)))) (ht0 : tys[t0]? = some (cA, .int))
    {sp dp n : Int32} (h1 : ¬ sp < 0) (h2 : ¬ dp < 0) (h3 : ¬ n < 0) (h4 : sp.toNatClampNeg + n.toNatClampNeg ≤ n0) (h5 : dp.toNatClampNeg + n.toNatClampNeg ≤ n1)
    (hframes : 1 ≤ R.frames) (hlocals : (rest.map fun v => v.category).sum + (nativeFrameWords "java/lang/System" "arraycopy" 5 + 11) ≤ R.locals) (hdg : decode cc pc = .ok (.invokestatic index, 3))
    (kk : ∀ (H1 : Heap) (L : List Loc), H1[a]? = some (arrV cA n1 (fun j => .int (va_cpy f g sp.toNatClampNeg dp.toNatClampNeg n.toNatClampNeg j))) → H1.size = H.size → (∀ q : Nat, q ≠ a → H1[q]? = H[q]?) → (∀ z ∈ L, z.base = a) → W p l e R s m args below meth c H1 (locs ++ L) cells slots Q (F0 m (pc + 3) ls rest)) : W p l e R s m args below meth c H locs cells slots Q (F0 m pc ls (.int n :: .int dp :: .ref a :: .int sp :: .ref a0 :: rest)) := by
  have nn : ∀ z : Int32, ¬ z < 0 → z.toInt = (z.toNatClampNeg : Int) := by
    intro z hz
    have hz0 : (0 : Int) ≤ z.toInt := by
      have := Int32.not_lt.mp hz
      simpa using Int32.le_iff_toInt_le.mp this
    show z.toInt = ((z.toInt.toNat : Nat) : Int)
    omega
  intro T hT X
  obtain ⟨-, k0, hk0, cm0, hkk0⟩ := (hK.2 t0 _ ht0).1 n0 (fun j => .int (f j))
  obtain ⟨-, k1, hk1, cm1, hkk1⟩ := (hK.2 t0 _ ht0).1 n1 (fun j => .int (g j))
  obtain ⟨vm', X', step⟩ := X.arraycopy hexec hown hlink hnat hstat hini (src := a0) (dst := a) (cs := arrV cA n0 (fun j => .int (f j))) (cd := arrV cA n1 (fun j => .int (g j))) (srcPos := sp) (destPos := dp) (n := n) (by rw [hT]; exact ha0) (by rw [hT]; exact ha1)
    (fun _ h => by cases h) (fun _ h => by cases h) (fun h => by cases h) (fun h => by cases h) hk0 hk1 hkk0 hkk1 (by simp [refKind]) h1 h2 h3
    (by rw [nn sp h1, nn n h3, arrV_size]; omega)
    (by rw [nn dp h2, nn n h3, arrV_size]; omega)
    (fun vm₁ _ i hi => by
      have e : (arrV cA n0 (fun j => .int (f j))).slots.getD (sp.toNatClampNeg + i) .null = .int (f (sp.toNatClampNeg + i)) := by
        rw [Array.getD_eq_getD_getElem?, arrV_read _ _ (by omega)]
        rfl
      refine ⟨?_, ?_⟩
      · rw [e]
        rfl
      · rw [e]
        exact trivial)
    (g := F0 m pc ls (.int n :: .int dp :: .ref a :: .int sp :: .ref a0 :: rest)) rfl (by rw [hml]) (rest := rest) rfl (by rw [hb]; exact hdg) hframes (by show 2 * 0 + _ + _ ≤ _; omega)
  have e1 : copied (arrV cA n0 (fun j => .int (f j))) (arrV cA n1 (fun j => .int (g j))) sp dp n = arrV cA n1 (fun j => .int (va_cpy f g sp.toNatClampNeg dp.toNatClampNeg n.toNatClampNeg j)) := va_copied (fun z => .int z) cA cA f g h4
  rw [e1] at X' step
  have hl : a < H.size := (Array.getElem?_eq_some_iff.mp ha1).1
  generalize hcell : arrV cA n1 (fun j => Value.int (va_cpy f g sp.toNatClampNeg dp.toNatClampNeg n.toNatClampNeg j)) = cell at X' step kk
  have hheap : ((T.setVm vm').setCell a cell).heap = H.setIfInBounds a cell := by rw [← hT]; rfl
  have oq : ∀ q : Nat, q ≠ a → (H.setIfInBounds a cell)[q]? = H[q]? := fun q hq => by simp [Array.getElem?_setIfInBounds, Ne.symm hq]
  obtain ⟨t, a1, b1⟩ := kk _ _ (show (H.setIfInBounds a cell)[a]? = some _ by simp [Array.getElem?_setIfInBounds, hl]) (by simp) oq (fun z hz => by
    obtain ⟨w, -, hw⟩ := List.mem_map.mp hz
    rw [← hw]) _ hheap X'
  exact ⟨t, step t a1, b1⟩
end WY
section JY
variable {α : Type} {G : JG} {cc : ByteArray} {y : MethodName} {nL D : Nat} {ret : Option FieldType} {I : PM → Prop} {fin : α → PM → State → Prop} {M : PM} {pc : Nat} {L : List (Option Value)} {S : List Value} {o o1 o2 : Option (α × PM)}
theorem J_ldcwS {index i : Nat} {tx : String} (hi : strL[i]? = some (index, tx)) (hy : y.cls = "TollOnVowels") (d : decode cc pc = .ok (.ldc_w index, 3)) (k : JJ G cc y nL D ret I fin M (pc + 3) L (.ref (1 + i) :: S) o) : JJ G cc y nL D ret I fin M pc L S o :=
  J_lift (fun p l e R s m args below meth c E M0 _ cx H locs ls k n Q _ _ hl _ _ _ w => wy_ldcwS cx.1 cx.2.1 cx.2.2.2.1 (by rw [hy]; exact cx.2.2.2.2.2.2.1.2.2.2.2.2 i _ hi) d (w ls hl)) k
theorem J_aloadO_n {i : Fin 4} {r : Option Nat} (d : decode cc pc = .ok (.aload_n i, 1)) (h : L[(i : Nat)]? = some (some (va_rf r))) (k : JJ G cc y nL D ret I fin M (pc + 1) L (va_rf r :: S) o) : JJ G cc y nL D ret I fin M pc L S o := by
  cases r with
  | none => exact J_lift (fun p l e R s m args below meth c E M0 _ cx H locs ls k n Q _ _ hl _ _ _ w => lv_aload_nN cx.1 cx.2.1 d rfl (hl.2.2 _ _ h) (w ls hl)) k
  | some a => exact J_aload_n d h k
theorem J_aloadO {i : Nat} {r : Option Nat} (d : decode cc pc = .ok (.aload i, 2)) (h : L[i]? = some (some (va_rf r))) (k : JJ G cc y nL D ret I fin M (pc + 2) L (va_rf r :: S) o) : JJ G cc y nL D ret I fin M pc L S o := by
  cases r with
  | none => exact J_lift (fun p l e R s m args below meth c E M0 _ cx H locs ls k n Q _ _ hl _ _ _ w => lv_aloadN cx.1 cx.2.1 d (hl.2.2 _ _ h) (w ls hl)) k
  | some a => exact J_aload d h k
theorem J_astoreO_n {i : Fin 4} {r : Option Nat} (d : decode cc pc = .ok (.astore_n i, 1)) (hn : (i : Nat) < nL) (k : JJ G cc y nL D ret I fin M (pc + 1) (lst1 L (i : Nat) (va_rf r)) S o) : JJ G cc y nL D ret I fin M pc L (va_rf r :: S) o := by
  cases r with
  | none => exact J_lift (fun p l e R s m args below meth c E M0 _ cx H locs ls k n Q _ _ hl _ _ _ w => lv_astore_nN cx.1 cx.2.1 d rfl (lh_has hl) hn rfl (fun ls' hl' => w ls' (lh_st1 (v := .null) hl'))) k
  | some a => exact J_astore_n d hn k
theorem J_astoreO {i : Nat} {r : Option Nat} (d : decode cc pc = .ok (.astore i, 2)) (hn : i < nL) (k : JJ G cc y nL D ret I fin M (pc + 2) (lst1 L i (va_rf r)) S o) : JJ G cc y nL D ret I fin M pc L (va_rf r :: S) o := by
  cases r with
  | none => exact J_lift (fun p l e R s m args below meth c E M0 _ cx H locs ls k n Q _ _ hl _ _ _ w => lv_astoreN cx.1 cx.2.1 d (lh_has hl) hn rfl (fun ls' hl' => w ls' (lh_st1 (v := .null) hl'))) k
  | some a => exact J_astore d hn k
/-- both arrays are int arrays, and the stretch lies in them -/
def ckc {α : Type} (M : PM) (a : Nat) (sp : Int32) (b : Nat) (dp n : Int32) (x : Option α) : Option α := if ((M.k a).1 = 20 ∧ (M.k b).1 = 20) ∧ (¬ sp < 0 ∧ ¬ dp < 0 ∧ ¬ n < 0) ∧ ix sp + ix n ≤ (M.k a).2 ∧ ix dp + ix n ≤ (M.k b).2 then x else none
theorem J_ckc {a b : Nat} {sp dp n : Int32} (k : (((M.k a).1 = 20 ∧ (M.k b).1 = 20) ∧ (¬ sp < 0 ∧ ¬ dp < 0 ∧ ¬ n < 0) ∧ ix sp + ix n ≤ (M.k a).2 ∧ ix dp + ix n ≤ (M.k b).2) → JJ G cc y nL D ret I fin M pc L S o) : JJ G cc y nL D ret I fin M pc L S (ckc M a sp b dp n o) := by
  unfold ckc
  split
  · exact k (by assumption)
  · exact J_none
theorem J_copy {index a b : Nat} {sp dp n : Int32} (hD : 1 ≤ D) (h1 : Cond.methodLink y.cls index arraycopyName ∈ lw_all) (h2 : Cond.native arraycopyName ∈ lw_all) (h3 : Cond.static arraycopyName ∈ lw_all) (h4 : Cond.initialized "java/lang/System" ∈ lw_all) (hc : ((M.k a).1 = 20 ∧ (M.k b).1 = 20) ∧ (¬ sp < 0 ∧ ¬ dp < 0 ∧ ¬ n < 0) ∧ ix sp + ix n ≤ (M.k a).2 ∧ ix dp + ix n ≤ (M.k b).2) (hS8 : (S.map fun v => v.category).sum ≤ 8) (hI : I M → I (M.ci a (ix sp) b (ix dp) (ix n))) (d : decode cc pc = .ok (.invokestatic index, 3))
    (k : JJ G cc y nL D ret I fin (M.ci a (ix sp) b (ix dp) (ix n)) (pc + 3) L S o) : JJ G cc y nL D ret I fin M pc L (.int n :: .int dp :: .ref b :: .int sp :: .ref a :: S) o := by
  refine J_wr (M' := M.ci a (ix sp) b (ix dp) (ix n)) ⟨rfl, rfl⟩ hI (fun p l e R s m args below meth c0 E M0 cx hi0 H locs ls k0 n0 Q _ _ hl hS hR w => ?_) k
  have f1 : D ≤ R.frames := cx.2.2.2.2.2.2.2.2.2.1
  have f2 : 40 * D ≤ R.locals := cx.2.2.2.2.2.2.2.2.2.2.1
  obtain ⟨⟨ka, kb⟩, ⟨c1, c2, c3⟩, c4, c5⟩ := hc
  have hd := hR.dom kb (by omega)
  refine wy_copyi cx.1 cx.2.1 (by rw [cx.2.2.1, hl.1]) cx.2.2.2.1 (cx.2.2.2.2.1 _ h1) (cx.2.2.2.2.1 _ h2) (cx.2.2.2.2.1 _ h3) (cx.2.2.2.2.1 _ h4) cx.2.2.2.2.2.2.1.1 (arrV_ref hR ka (by omega) (by omega)) (arrV_ref hR kb (by omega) (by omega)) (tys_at E (c := 20) (by omega) (by omega)) c1 c2 c3 c4 c5 (by omega) ?_ d (fun H1 Lc e1 z1 o1 hL => ?_)
  · rw [tr_cats]
    have : nativeFrameWords "java/lang/System" "arraycopy" 5 + 11 ≤ 32 := by decide +kernel
    omega
  · refine w H1 _ (hR.set cx.2.2.2.2.2.1 kb (by omega) (by omega) ⟨rfl, rfl⟩ (fun q hq => up1_same hq) (fun _ _ => rfl) (fun _ _ => rfl) z1 o1 e1 (fun j => ?_)) ⟨by rw [z1]; exact hS.1, fun q q1 q2 => ?_, fun z hz => ?_⟩
    · show Value.int _ = Value.int _
      rw [ci_i, if_pos rfl]
      rfl
    · rw [o1 q (fun e => q2 (by rw [e]; exact cx.2.2.2.2.2.1.ge hd.1))]
      exact hS.2.1 q q1 q2
    · rcases List.mem_append.mp hz with h | h
      · exact hS.2.2 z h
      · show E.B ≤ z.base
        rw [hL z h]
        exact cx.2.2.2.2.2.1.ge hd.1
end JY
