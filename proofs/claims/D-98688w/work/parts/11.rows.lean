/-! THE JUDGEMENT over the pure memory: from the frame at pc with locals L and stack S, memory M, the machine comes to the end that 'fin' names of o's answer and memory -/
/-- the handlers of the law's own methods; no other method has any -/
def ETof (y : MethodName) : List ExceptionTableEntry := if y.cls = "TollOnVowelsLaw" then (if y.name = "law" then [] else if y.name = "row" then tableOf [(0, 8, 11, 13)] else tableOf [(0, 10, 13, 13)]) else []
def JG : Type := Program × Launch × Env × Room × State × MethodId × Array Value × List Frame × Method × Code × En × PM
def Cx (G : JG) (cc : ByteArray) (y : MethodName) (nL D : Nat) (ret : Option FieldType) : Prop := match G with
  | (p, _, _, R, s, m, args, _, meth, c, E, _) => p.tables.exec = Jvm.exec ∧ c.code = cc ∧ c.maxLocals = nL ∧ s.vm.findClass y.cls = some m.cls ∧ (∀ w ∈ lw_all, w.before args s = true) ∧ EOk E ∧ Tb E s ∧ Pic E s s.heap ∧ meth.locks = false ∧ D ≤ R.frames ∧ 40 * D ≤ R.locals ∧ meth.sig.returnType = ret ∧ meth.name = y.name ∧ c.exceptionTable.toList = ETof y
def JJ {α : Type} (G : JG) (cc : ByteArray) (y : MethodName) (nL D : Nat) (ret : Option FieldType) (I : PM → Prop) (fin : α → PM → State → Prop) (M : PM) (pc : Nat) (L : List (Option Value)) (S : List Value) (o : Option (α × PM)) : Prop := match G with
  | (p, l, e, R, s, m, args, below, meth, c, E, M0) => ∀ (r : α) (Me : PM), o = some (r, Me) → (M.n ≤ Me.n ∧ M.w ≤ Me.w) ∧ (Cx (p, l, e, R, s, m, args, below, meth, c, E, M0) cc y nL D ret → Me.n ≤ M0.n + R.cells → Me.w ≤ M0.w + R.slots → M0.n ≤ M.n → M0.w ≤ M.w → I M →
      ∀ (H : Heap) (locs : List Loc) (ls : Array Slot), Rep E M H → va_S (fun q => E.B ≤ q) s.heap H locs → lh E.ad ls nL L → W p l e R s m args below meth c H locs (M.n - M0.n) (M.w - M0.w) (fin r Me) (F0 m pc ls (S.map (tr E.ad))))
section JR
variable {α : Type} {G : JG} {cc : ByteArray} {y : MethodName} {nL D : Nat} {ret : Option FieldType} {I : PM → Prop} {fin : α → PM → State → Prop} {M : PM} {pc : Nat} {L : List (Option Value)} {S : List Value} {o o1 o2 : Option (α × PM)}
theorem J_none : JJ G cc y nL D ret I fin M pc L S none := by
  obtain ⟨p, l, e, R, s, m, args, below, meth, c, E, M0⟩ := G
  intro r Me h
  cases h
theorem J_eq (h : o = o1) (k : JJ G cc y nL D ret I fin M pc L S o1) : JJ G cc y nL D ret I fin M pc L S o := h ▸ k
/-- a name for a value -/
theorem J_lt {β : Type} {v : β} {f : β → Option (α × PM)} {L : β → List (Option Value)} {S : β → List Value} (k : ∀ x, JJ G cc y nL D ret I fin M pc (L x) (S x) (f x)) : JJ G cc y nL D ret I fin M pc (L v) (S v) (lt v f) := k v
/-- a name for a memory -/
theorem J_ltM {v : PM} {f : PM → Option (α × PM)} (k : ∀ M, JJ G cc y nL D ret I fin M pc L S (f M)) : JJ G cc y nL D ret I fin v pc L S (lt v f) := k v
theorem J_jn {β : Type} {J : β} {f : β → Option (α × PM)} {P : β → Prop} (h : P J) (k : ∀ j, P j → JJ G cc y nL D ret I fin M pc L S (f j)) : JJ G cc y nL D ret I fin M pc L S (jn J f) := k J h
theorem J_ck {i : Int32} {n : Nat} (k : vp_in i n → JJ G cc y nL D ret I fin M pc L S o) : JJ G cc y nL D ret I fin M pc L S (ck i n o) := by
  by_cases h : i < 0 ∨ n ≤ ix i
  · rw [ck, if_pos h]; exact J_none
  · rw [ck, if_neg h]; exact k h
theorem J_cka {a c0 : Nat} {i : Int32} (k : (M.k a).1 = c0 → vp_in i (M.k a).2 → JJ G cc y nL D ret I fin M pc L S o) : JJ G cc y nL D ret I fin M pc L S (cka M a c0 i o) := by
  by_cases h : (M.k a).1 = c0
  · rw [cka, if_pos h]; exact J_ck (k h)
  · rw [cka, if_neg h]; exact J_none
theorem J_ckk {a c0 : Nat} (k : (M.k a).1 = c0 → JJ G cc y nL D ret I fin M pc L S o) : JJ G cc y nL D ret I fin M pc L S (ckk M a c0 o) := by
  by_cases h : (M.k a).1 = c0
  · rw [ckk, if_pos h]; exact k h
  · rw [ckk, if_neg h]; exact J_none
theorem J_ckb {q : Prop} [Decidable q] (k : q → JJ G cc y nL D ret I fin M pc L S o) : JJ G cc y nL D ret I fin M pc L S (ckb q o) := by
  by_cases h : q
  · rw [ckb, if_pos h]; exact k h
  · rw [ckb, if_neg h]; exact J_none
theorem J_rf {r : Option Nat} {f : Nat → Option (α × PM)} {L : Option Nat → List (Option Value)} {S : Option Nat → List Value} (k : ∀ a, JJ G cc y nL D ret I fin M pc (L (some a)) (S (some a)) (f a)) : JJ G cc y nL D ret I fin M pc (L r) (S r) (rf r f) := by
  cases r with
  | none => exact J_none
  | some a => exact k a
/-- weaker locals -/
theorem J_sub {A : List (Option Value)} (h : Lsub A L) (k : JJ G cc y nL D ret I fin M pc A S o) : JJ G cc y nL D ret I fin M pc L S o := by
  obtain ⟨p, l, e, R, s, m, args, below, meth, c, E, M0⟩ := G
  intro r Me ho
  obtain ⟨h1, h2⟩ := k r Me ho
  exact ⟨h1, fun cx a b u v i H locs ls hR hS hl => h2 cx a b u v i H locs ls hR hS ⟨hl.1, hl.2.1, fun j w hj => hl.2.2 j w (h.get j w hj)⟩⟩
theorem J_I (k : I M → JJ G cc y nL D ret I fin M pc L S o) (h : ∀ r Me, o = some (r, Me) → M.n ≤ Me.n ∧ M.w ≤ Me.w) : JJ G cc y nL D ret I fin M pc L S o := by
  obtain ⟨p, l, e, R, s, m, args, below, meth, c, E, M0⟩ := G
  intro r Me ho
  exact ⟨h r Me ho, fun cx a b u v i H locs ls hR hS hl => (k i r Me ho).2 cx a b u v i H locs ls hR hS hl⟩
theorem J_lift {pc' : Nat} {S' : List Value} {L' : List (Option Value)}
    (h : ∀ (p : Program) (l : Launch) (e : Env) (R : Room) (s : State) (m : MethodId) (args : Array Value) (below : List Frame) (meth : Method) (c : Code) (E : En) (M0 : PM), G = (p, l, e, R, s, m, args, below, meth, c, E, M0) → Cx (p, l, e, R, s, m, args, below, meth, c, E, M0) cc y nL D ret → ∀ (H : Heap) (locs : List Loc) (ls : Array Slot) (k n : Nat) (Q : State → Prop), k ≤ R.cells → n ≤ R.slots → lh E.ad ls nL L → va_S (fun q => E.B ≤ q) s.heap H locs → Rep E M H → I M →
      (∀ ls', lh E.ad ls' nL L' → W p l e R s m args below meth c H locs k n Q (F0 m pc' ls' (S'.map (tr E.ad)))) → W p l e R s m args below meth c H locs k n Q (F0 m pc ls (S.map (tr E.ad))))
    (k : JJ G cc y nL D ret I fin M pc' L' S' o) : JJ G cc y nL D ret I fin M pc L S o := by
  obtain ⟨p, l, e, R, s, m, args, below, meth, c, E, M0⟩ := G
  intro r Me ho
  obtain ⟨h1, h2⟩ := k r Me ho
  exact ⟨h1, fun cx a b u v i H locs ls hR hS hl => h p l e R s m args below meth c E M0 rfl cx H locs ls _ _ _ (by omega) (by omega) hl hS hR i (fun ls' hl' => h2 cx a b u v i H locs ls' hR hS hl')⟩

theorem J_iadd {a b : Int32} (d : decode cc pc = .ok (.iadd, 1)) (k : JJ G cc y nL D ret I fin M (pc + 1) L (.int (a + b) :: S) o) : JJ G cc y nL D ret I fin M pc L (.int b :: .int a :: S) o :=
  J_lift (fun p l e R s m args below meth c E M0 _ cx H locs ls k n Q _ _ hl _ _ _ w => lv_iadd cx.1 cx.2.1 d (w ls hl)) k
theorem J_isub {a b : Int32} (d : decode cc pc = .ok (.isub, 1)) (k : JJ G cc y nL D ret I fin M (pc + 1) L (.int (a - b) :: S) o) : JJ G cc y nL D ret I fin M pc L (.int b :: .int a :: S) o :=
  J_lift (fun p l e R s m args below meth c E M0 _ cx H locs ls k n Q _ _ hl _ _ _ w => lv_isub cx.1 cx.2.1 d (w ls hl)) k
theorem J_imul {a b : Int32} (d : decode cc pc = .ok (.imul, 1)) (k : JJ G cc y nL D ret I fin M (pc + 1) L (.int (a * b) :: S) o) : JJ G cc y nL D ret I fin M pc L (.int b :: .int a :: S) o :=
  J_lift (fun p l e R s m args below meth c E M0 _ cx H locs ls k n Q _ _ hl _ _ _ w => lv_imul cx.1 cx.2.1 d (w ls hl)) k
theorem J_iand {a b : Int32} (d : decode cc pc = .ok (.iand, 1)) (k : JJ G cc y nL D ret I fin M (pc + 1) L (.int (a &&& b) :: S) o) : JJ G cc y nL D ret I fin M pc L (.int b :: .int a :: S) o :=
  J_lift (fun p l e R s m args below meth c E M0 _ cx H locs ls k n Q _ _ hl _ _ _ w => lv_iand cx.1 cx.2.1 d (w ls hl)) k
theorem J_ior {a b : Int32} (d : decode cc pc = .ok (.ior, 1)) (k : JJ G cc y nL D ret I fin M (pc + 1) L (.int (a ||| b) :: S) o) : JJ G cc y nL D ret I fin M pc L (.int b :: .int a :: S) o :=
  J_lift (fun p l e R s m args below meth c E M0 _ cx H locs ls k n Q _ _ hl _ _ _ w => lv_ior cx.1 cx.2.1 d (w ls hl)) k
theorem J_ixor {a b : Int32} (d : decode cc pc = .ok (.ixor, 1)) (k : JJ G cc y nL D ret I fin M (pc + 1) L (.int (a ^^^ b) :: S) o) : JJ G cc y nL D ret I fin M pc L (.int b :: .int a :: S) o :=
  J_lift (fun p l e R s m args below meth c E M0 _ cx H locs ls k n Q _ _ hl _ _ _ w => lv_ixor cx.1 cx.2.1 d (w ls hl)) k
theorem J_ishl {a b : Int32} (d : decode cc pc = .ok (.ishl, 1)) (k : JJ G cc y nL D ret I fin M (pc + 1) L (.int (a <<< (b &&& 31)) :: S) o) : JJ G cc y nL D ret I fin M pc L (.int b :: .int a :: S) o :=
  J_lift (fun p l e R s m args below meth c E M0 _ cx H locs ls k n Q _ _ hl _ _ _ w => lv_ishl cx.1 cx.2.1 d (w ls hl)) k
theorem J_ishr {a b : Int32} (d : decode cc pc = .ok (.ishr, 1)) (k : JJ G cc y nL D ret I fin M (pc + 1) L (.int (a >>> (b &&& 31)) :: S) o) : JJ G cc y nL D ret I fin M pc L (.int b :: .int a :: S) o :=
  J_lift (fun p l e R s m args below meth c E M0 _ cx H locs ls k n Q _ _ hl _ _ _ w => lv_ishr cx.1 cx.2.1 d (w ls hl)) k
theorem J_iushr {a b : Int32} (d : decode cc pc = .ok (.iushr, 1)) (k : JJ G cc y nL D ret I fin M (pc + 1) L (.int ((a.toUInt32 >>> (b.toUInt32 &&& Int32.toUInt32 31)).toInt32) :: S) o) : JJ G cc y nL D ret I fin M pc L (.int b :: .int a :: S) o :=
  J_lift (fun p l e R s m args below meth c E M0 _ cx H locs ls k n Q _ _ hl _ _ _ w => lv_iushr cx.1 cx.2.1 d rfl (w ls hl)) k
theorem J_ineg {a : Int32} (d : decode cc pc = .ok (.ineg, 1)) (k : JJ G cc y nL D ret I fin M (pc + 1) L (.int (-a) :: S) o) : JJ G cc y nL D ret I fin M pc L (.int a :: S) o :=
  J_lift (fun p l e R s m args below meth c E M0 _ cx H locs ls k n Q _ _ hl _ _ _ w => lv_ineg cx.1 cx.2.1 d (w ls hl)) k
theorem J_idiv {a b : Int32} (d : decode cc pc = .ok (.idiv, 1)) (hb : ¬ b = 0) (k : JJ G cc y nL D ret I fin M (pc + 1) L (.int (a / b) :: S) o) : JJ G cc y nL D ret I fin M pc L (.int b :: .int a :: S) o :=
  J_lift (fun p l e R s m args below meth c E M0 _ cx H locs ls k n Q _ _ hl _ _ _ w => lv_idiv cx.1 cx.2.1 d hb (w ls hl)) k
theorem J_irem {a b : Int32} (d : decode cc pc = .ok (.irem, 1)) (hb : ¬ b = 0) (k : JJ G cc y nL D ret I fin M (pc + 1) L (.int (a - a / b * b) :: S) o) : JJ G cc y nL D ret I fin M pc L (.int b :: .int a :: S) o :=
  J_lift (fun p l e R s m args below meth c E M0 _ cx H locs ls k n Q _ _ hl _ _ _ w => lv_irem cx.1 cx.2.1 d hb (w ls hl)) k
theorem J_ladd {a b : Int64} (d : decode cc pc = .ok (.ladd, 1)) (k : JJ G cc y nL D ret I fin M (pc + 1) L (.long (a + b) :: S) o) : JJ G cc y nL D ret I fin M pc L (.long b :: .long a :: S) o :=
  J_lift (fun p l e R s m args below meth c E M0 _ cx H locs ls k n Q _ _ hl _ _ _ w => lv_ladd cx.1 cx.2.1 d (w ls hl)) k
theorem J_lsub {a b : Int64} (d : decode cc pc = .ok (.lsub, 1)) (k : JJ G cc y nL D ret I fin M (pc + 1) L (.long (a - b) :: S) o) : JJ G cc y nL D ret I fin M pc L (.long b :: .long a :: S) o :=
  J_lift (fun p l e R s m args below meth c E M0 _ cx H locs ls k n Q _ _ hl _ _ _ w => lv_lsub cx.1 cx.2.1 d (w ls hl)) k
theorem J_lmul {a b : Int64} (d : decode cc pc = .ok (.lmul, 1)) (k : JJ G cc y nL D ret I fin M (pc + 1) L (.long (a * b) :: S) o) : JJ G cc y nL D ret I fin M pc L (.long b :: .long a :: S) o :=
  J_lift (fun p l e R s m args below meth c E M0 _ cx H locs ls k n Q _ _ hl _ _ _ w => lv_lmul cx.1 cx.2.1 d (w ls hl)) k
theorem J_ldiv {a b : Int64} (d : decode cc pc = .ok (.ldiv, 1)) (hb : ¬ b = 0) (k : JJ G cc y nL D ret I fin M (pc + 1) L (.long (a / b) :: S) o) : JJ G cc y nL D ret I fin M pc L (.long b :: .long a :: S) o :=
  J_lift (fun p l e R s m args below meth c E M0 _ cx H locs ls k n Q _ _ hl _ _ _ w => lv_ldiv cx.1 cx.2.1 d hb (w ls hl)) k
theorem J_lrem {a b : Int64} (d : decode cc pc = .ok (.lrem, 1)) (hb : ¬ b = 0) (k : JJ G cc y nL D ret I fin M (pc + 1) L (.long (a - a / b * b) :: S) o) : JJ G cc y nL D ret I fin M pc L (.long b :: .long a :: S) o :=
  J_lift (fun p l e R s m args below meth c E M0 _ cx H locs ls k n Q _ _ hl _ _ _ w => lv_lrem cx.1 cx.2.1 d hb (w ls hl)) k
theorem J_lcmp {a b : Int64} (d : decode cc pc = .ok (.lcmp, 1)) (k : JJ G cc y nL D ret I fin M (pc + 1) L (.int (lg_cmp a b) :: S) o) : JJ G cc y nL D ret I fin M pc L (.long b :: .long a :: S) o :=
  J_lift (fun p l e R s m args below meth c E M0 _ cx H locs ls k n Q _ _ hl _ _ _ w => W.lcmp cx.1 cx.2.1 d (w ls hl)) k
theorem J_i2l {a : Int32} (d : decode cc pc = .ok (.i2l, 1)) (k : JJ G cc y nL D ret I fin M (pc + 1) L (.long a.toInt64 :: S) o) : JJ G cc y nL D ret I fin M pc L (.int a :: S) o :=
  J_lift (fun p l e R s m args below meth c E M0 _ cx H locs ls k n Q _ _ hl _ _ _ w => lv_i2l cx.1 cx.2.1 d rfl (w ls hl)) k
theorem J_l2i {a : Int64} (d : decode cc pc = .ok (.l2i, 1)) (k : JJ G cc y nL D ret I fin M (pc + 1) L (.int a.toInt32 :: S) o) : JJ G cc y nL D ret I fin M pc L (.long a :: S) o :=
  J_lift (fun p l e R s m args below meth c E M0 _ cx H locs ls k n Q _ _ hl _ _ _ w => lv_l2i cx.1 cx.2.1 d rfl (w ls hl)) k
theorem J_i2b {a : Int32} (d : decode cc pc = .ok (.i2b, 1)) (k : JJ G cc y nL D ret I fin M (pc + 1) L (.int a.toInt8.toInt32 :: S) o) : JJ G cc y nL D ret I fin M pc L (.int a :: S) o :=
  J_lift (fun p l e R s m args below meth c E M0 _ cx H locs ls k n Q _ _ hl _ _ _ w => lv_i2b cx.1 cx.2.1 d rfl (w ls hl)) k
theorem J_i2s {a : Int32} (d : decode cc pc = .ok (.i2s, 1)) (k : JJ G cc y nL D ret I fin M (pc + 1) L (.int a.toInt16.toInt32 :: S) o) : JJ G cc y nL D ret I fin M pc L (.int a :: S) o :=
  J_lift (fun p l e R s m args below meth c E M0 _ cx H locs ls k n Q _ _ hl _ _ _ w => lv_i2s cx.1 cx.2.1 d rfl (w ls hl)) k
theorem J_i2c {a : Int32} (d : decode cc pc = .ok (.i2c, 1)) (k : JJ G cc y nL D ret I fin M (pc + 1) L (.int (a.toUInt32 % 65536).toInt32 :: S) o) : JJ G cc y nL D ret I fin M pc L (.int a :: S) o :=
  J_lift (fun p l e R s m args below meth c E M0 _ cx H locs ls k n Q _ _ hl _ _ _ w => lv_i2c cx.1 cx.2.1 d rfl (w ls hl)) k
theorem J_iconst {i : Int} (v : Int32) (d : decode cc pc = .ok (.iconst i, 1)) (hv : Int32.ofInt i = v) (k : JJ G cc y nL D ret I fin M (pc + 1) L (.int v :: S) o) : JJ G cc y nL D ret I fin M pc L (S) o :=
  J_lift (fun p l e R s m args below meth c E M0 _ cx H locs ls k n Q _ _ hl _ _ _ w => lv_iconst cx.1 cx.2.1 d hv (w ls hl)) k
theorem J_bipush {i : Int} (v : Int32) (d : decode cc pc = .ok (.bipush i, 2)) (hv : (Int8.ofInt i).toInt32 = v) (k : JJ G cc y nL D ret I fin M (pc + 2) L (.int v :: S) o) : JJ G cc y nL D ret I fin M pc L (S) o :=
  J_lift (fun p l e R s m args below meth c E M0 _ cx H locs ls k n Q _ _ hl _ _ _ w => lv_bipush cx.1 cx.2.1 d hv (w ls hl)) k
theorem J_sipush {i : Int} (v : Int32) (d : decode cc pc = .ok (.sipush i, 3)) (hv : (Int16.ofInt i).toInt32 = v) (k : JJ G cc y nL D ret I fin M (pc + 3) L (.int v :: S) o) : JJ G cc y nL D ret I fin M pc L (S) o :=
  J_lift (fun p l e R s m args below meth c E M0 _ cx H locs ls k n Q _ _ hl _ _ _ w => lv_sipush cx.1 cx.2.1 d hv (w ls hl)) k
theorem J_lconst {i : Fin 2} (v : Int64) (d : decode cc pc = .ok (.lconst i, 1)) (hv : Int64.ofNat (i : Nat) = v) (k : JJ G cc y nL D ret I fin M (pc + 1) L (.long v :: S) o) : JJ G cc y nL D ret I fin M pc L (S) o :=
  J_lift (fun p l e R s m args below meth c E M0 _ cx H locs ls k n Q _ _ hl _ _ _ w => lv_lconst cx.1 cx.2.1 d hv (w ls hl)) k
theorem J_null (d : decode cc pc = .ok (.aconst_null, 1)) (k : JJ G cc y nL D ret I fin M (pc + 1) L (.null :: S) o) : JJ G cc y nL D ret I fin M pc L (S) o :=
  J_lift (fun p l e R s m args below meth c E M0 _ cx H locs ls k n Q _ _ hl _ _ _ w => lv_null cx.1 cx.2.1 d (w ls hl)) k
theorem J_dup {v : Value} (d : decode cc pc = .ok (.dup, 1)) (hc : v.category = 1) (k : JJ G cc y nL D ret I fin M (pc + 1) L (v :: v :: S) o) : JJ G cc y nL D ret I fin M pc L (v :: S) o :=
  J_lift (fun p l e R s m args below meth c E M0 _ cx H locs ls k n Q _ _ hl _ _ _ w => lv_dup cx.1 cx.2.1 d (by rw [tr_cat]; exact hc) (w ls hl)) k
theorem J_pop {v : Value} (d : decode cc pc = .ok (.pop, 1)) (hc : v.category = 1) (k : JJ G cc y nL D ret I fin M (pc + 1) L (S) o) : JJ G cc y nL D ret I fin M pc L (v :: S) o :=
  J_lift (fun p l e R s m args below meth c E M0 _ cx H locs ls k n Q _ _ hl _ _ _ w => lv_pop cx.1 cx.2.1 d (by rw [tr_cat]; exact hc) (w ls hl)) k
theorem J_dup_x1 {v w : Value} (d : decode cc pc = .ok (.dup_x1, 1)) (hc : v.category = 1) (hd : w.category = 1) (k : JJ G cc y nL D ret I fin M (pc + 1) L (v :: w :: v :: S) o) : JJ G cc y nL D ret I fin M pc L (v :: w :: S) o :=
  J_lift (fun p l e R s m args below meth c E M0 _ cx H locs ls k n Q _ _ hl _ _ _ w => lv_dup_x1 cx.1 cx.2.1 d (by rw [tr_cat]; exact hc) (by rw [tr_cat]; exact hd) (w ls hl)) k
theorem J_dup2 {v w : Value} (d : decode cc pc = .ok (.dup2, 1)) (hc : v.category = 1) (hd : w.category = 1) (k : JJ G cc y nL D ret I fin M (pc + 1) L (v :: w :: v :: w :: S) o) : JJ G cc y nL D ret I fin M pc L (v :: w :: S) o :=
  J_lift (fun p l e R s m args below meth c E M0 _ cx H locs ls k n Q _ _ hl _ _ _ w => lv_dup2_11 cx.1 cx.2.1 d (by rw [tr_cat]; exact hc) (by rw [tr_cat]; exact hd) (w ls hl)) k
theorem J_iload_n {i : Fin 4} {v : Int32} (d : decode cc pc = .ok (.iload_n i, 1)) (h : L[(i : Nat)]? = some (some (.int v))) (k : JJ G cc y nL D ret I fin M (pc + 1) L (.int v :: S) o) : JJ G cc y nL D ret I fin M pc L (S) o :=
  J_lift (fun p l e R s m args below meth c E M0 _ cx H locs ls k n Q _ _ hl _ _ _ w => lv_iload_n cx.1 cx.2.1 d rfl (hl.2.2 _ _ h) (w ls hl)) k
theorem J_iload {i : Nat} {v : Int32} (d : decode cc pc = .ok (.iload i, 2)) (h : L[i]? = some (some (.int v))) (k : JJ G cc y nL D ret I fin M (pc + 2) L (.int v :: S) o) : JJ G cc y nL D ret I fin M pc L (S) o :=
  J_lift (fun p l e R s m args below meth c E M0 _ cx H locs ls k n Q _ _ hl _ _ _ w => lv_iload cx.1 cx.2.1 d (hl.2.2 _ _ h) (w ls hl)) k
theorem J_lload_n {i : Fin 4} {v : Int64} (d : decode cc pc = .ok (.lload_n i, 1)) (h : L[(i : Nat)]? = some (some (.long v))) (k : JJ G cc y nL D ret I fin M (pc + 1) L (.long v :: S) o) : JJ G cc y nL D ret I fin M pc L (S) o :=
  J_lift (fun p l e R s m args below meth c E M0 _ cx H locs ls k n Q _ _ hl _ _ _ w => lv_lload_n cx.1 cx.2.1 d rfl (hl.2.2 _ _ h) (w ls hl)) k
theorem J_lload {i : Nat} {v : Int64} (d : decode cc pc = .ok (.lload i, 2)) (h : L[i]? = some (some (.long v))) (k : JJ G cc y nL D ret I fin M (pc + 2) L (.long v :: S) o) : JJ G cc y nL D ret I fin M pc L (S) o :=
  J_lift (fun p l e R s m args below meth c E M0 _ cx H locs ls k n Q _ _ hl _ _ _ w => lv_lload cx.1 cx.2.1 d (hl.2.2 _ _ h) (w ls hl)) k
theorem J_aload_n {i : Fin 4} {a : Nat} (d : decode cc pc = .ok (.aload_n i, 1)) (h : L[(i : Nat)]? = some (some (.ref a))) (k : JJ G cc y nL D ret I fin M (pc + 1) L (.ref a :: S) o) : JJ G cc y nL D ret I fin M pc L (S) o :=
  J_lift (fun p l e R s m args below meth c E M0 _ cx H locs ls k n Q _ _ hl _ _ _ w => lv_aload_n cx.1 cx.2.1 d rfl (hl.2.2 _ _ h) (w ls hl)) k
theorem J_aload {i : Nat} {a : Nat} (d : decode cc pc = .ok (.aload i, 2)) (h : L[i]? = some (some (.ref a))) (k : JJ G cc y nL D ret I fin M (pc + 2) L (.ref a :: S) o) : JJ G cc y nL D ret I fin M pc L (S) o :=
  J_lift (fun p l e R s m args below meth c E M0 _ cx H locs ls k n Q _ _ hl _ _ _ w => lv_aload cx.1 cx.2.1 d (hl.2.2 _ _ h) (w ls hl)) k
theorem J_istore_n {i : Fin 4} {v : Int32} (d : decode cc pc = .ok (.istore_n i, 1)) (hn : (i : Nat) < nL) (k : JJ G cc y nL D ret I fin M (pc + 1) (lst1 L (i : Nat) (.int v)) S o) : JJ G cc y nL D ret I fin M pc L (.int v :: S) o :=
  J_lift (fun p l e R s m args below meth c E M0 _ cx H locs ls k n Q _ _ hl _ _ _ w => lv_istore_n cx.1 cx.2.1 d rfl (lh_has hl) hn rfl (fun ls' hl' => w ls' (lh_st1 (v := .int v) hl'))) k
theorem J_istore {i : Nat} {v : Int32} (d : decode cc pc = .ok (.istore i, 2)) (hn : i < nL) (k : JJ G cc y nL D ret I fin M (pc + 2) (lst1 L i (.int v)) S o) : JJ G cc y nL D ret I fin M pc L (.int v :: S) o :=
  J_lift (fun p l e R s m args below meth c E M0 _ cx H locs ls k n Q _ _ hl _ _ _ w => lv_istore cx.1 cx.2.1 d (lh_has hl) hn rfl (fun ls' hl' => w ls' (lh_st1 (v := .int v) hl'))) k
theorem J_lstore_n {i : Fin 4} {v : Int64} (d : decode cc pc = .ok (.lstore_n i, 1)) (hn : (i : Nat) + 1 < nL) (k : JJ G cc y nL D ret I fin M (pc + 1) (lst2 L (i : Nat) (.long v)) S o) : JJ G cc y nL D ret I fin M pc L (.long v :: S) o :=
  J_lift (fun p l e R s m args below meth c E M0 _ cx H locs ls k n Q _ _ hl _ _ _ w => lv_lstore_n cx.1 cx.2.1 d rfl (lh_has hl) hn rfl (fun ls' hl' => w ls' (lh_st2 (v := .long v) hl'))) k
theorem J_lstore {i : Nat} {v : Int64} (d : decode cc pc = .ok (.lstore i, 2)) (hn : i + 1 < nL) (k : JJ G cc y nL D ret I fin M (pc + 2) (lst2 L i (.long v)) S o) : JJ G cc y nL D ret I fin M pc L (.long v :: S) o :=
  J_lift (fun p l e R s m args below meth c E M0 _ cx H locs ls k n Q _ _ hl _ _ _ w => lv_lstore cx.1 cx.2.1 d (lh_has hl) hn rfl (fun ls' hl' => w ls' (lh_st2 (v := .long v) hl'))) k
theorem J_astore_n {i : Fin 4} {v : Nat} (d : decode cc pc = .ok (.astore_n i, 1)) (hn : (i : Nat) < nL) (k : JJ G cc y nL D ret I fin M (pc + 1) (lst1 L (i : Nat) (.ref v)) S o) : JJ G cc y nL D ret I fin M pc L (.ref v :: S) o :=
  J_lift (fun p l e R s m args below meth c E M0 _ cx H locs ls k n Q _ _ hl _ _ _ w => lv_astore_n cx.1 cx.2.1 d rfl (lh_has hl) hn rfl (fun ls' hl' => w ls' (lh_st1 (v := .ref v) hl'))) k
theorem J_astore {i : Nat} {v : Nat} (d : decode cc pc = .ok (.astore i, 2)) (hn : i < nL) (k : JJ G cc y nL D ret I fin M (pc + 2) (lst1 L i (.ref v)) S o) : JJ G cc y nL D ret I fin M pc L (.ref v :: S) o :=
  J_lift (fun p l e R s m args below meth c E M0 _ cx H locs ls k n Q _ _ hl _ _ _ w => lv_astore cx.1 cx.2.1 d (lh_has hl) hn rfl (fun ls' hl' => w ls' (lh_st1 (v := .ref v) hl'))) k
theorem J_iinc {i : Nat} {n : Int} {x : Int32} (v : Int32) (d : decode cc pc = .ok (.iinc i n, 3)) (h : L[i]? = some (some (.int x))) (hv : x + Int32.ofInt n = v) (hn : i < nL) (k : JJ G cc y nL D ret I fin M (pc + 3) (lst1 L i (.int v)) S o) : JJ G cc y nL D ret I fin M pc L S o := by
  refine J_lift (fun p l e R s m args below meth c E M0 _ cx H locs ls k n Q _ _ hl _ _ _ w => ?_) k
  obtain ⟨j, hj⟩ := List.getElem?_of_mem ((asc_mem E.ad L 0 (i, .int x)).mpr ⟨i, .int x, h, by simp [tr]⟩)
  exact lv_iinc cx.1 cx.2.1 d (lh_has hl) hj hv hn rfl (fun ls' hl' => w ls' (lh_st1 (v := .int v) hl'))
theorem J_if_ne {x : Int32} {off : Int} (tgt : Nat) (d : decode cc pc = .ok (.ifCond .ne off, 3)) (ht : (pc : Int) + off = (tgt : Int)) (e1 : ¬ x = 0 → o = o1) (e2 : x = 0 → o = o2) (k1 : ¬ x = 0 → JJ G cc y nL D ret I fin M tgt L S o1) (k2 : x = 0 → JJ G cc y nL D ret I fin M (pc + 3) L S o2) : JJ G cc y nL D ret I fin M pc L (.int x :: S) o := by
  by_cases hc : x = 0
  · exact J_lift (fun p l e R s m args below meth c E M0 _ cx H locs ls k n Q _ _ hl _ _ _ w => lv_if_ne cx.1 cx.2.1 d ht (fun h => absurd hc h) (fun _ => w ls hl)) (e2 hc ▸ k2 hc)
  · exact J_lift (fun p l e R s m args below meth c E M0 _ cx H locs ls k n Q _ _ hl _ _ _ w => lv_if_ne cx.1 cx.2.1 d ht (fun _ => w ls hl) (fun h => absurd h hc)) (e1 hc ▸ k1 hc)
theorem J_icmp_ne {a b : Int32} {off : Int} (tgt : Nat) (d : decode cc pc = .ok (.if_icmp .ne off, 3)) (ht : (pc : Int) + off = (tgt : Int)) (e1 : ¬ a = b → o = o1) (e2 : a = b → o = o2) (k1 : ¬ a = b → JJ G cc y nL D ret I fin M tgt L S o1) (k2 : a = b → JJ G cc y nL D ret I fin M (pc + 3) L S o2) : JJ G cc y nL D ret I fin M pc L (.int b :: .int a :: S) o := by
  by_cases hc : a = b
  · exact J_lift (fun p l e R s m args below meth c E M0 _ cx H locs ls k n Q _ _ hl _ _ _ w => lv_icmp_ne cx.1 cx.2.1 d ht (fun h => absurd hc h) (fun _ => w ls hl)) (e2 hc ▸ k2 hc)
  · exact J_lift (fun p l e R s m args below meth c E M0 _ cx H locs ls k n Q _ _ hl _ _ _ w => lv_icmp_ne cx.1 cx.2.1 d ht (fun _ => w ls hl) (fun h => absurd h hc)) (e1 hc ▸ k1 hc)
theorem J_if_eq {x : Int32} {off : Int} (tgt : Nat) (d : decode cc pc = .ok (.ifCond .eq off, 3)) (ht : (pc : Int) + off = (tgt : Int)) (e1 : x = 0 → o = o1) (e2 : ¬ (x = 0) → o = o2) (k1 : x = 0 → JJ G cc y nL D ret I fin M tgt L S o1) (k2 : ¬ (x = 0) → JJ G cc y nL D ret I fin M (pc + 3) L S o2) : JJ G cc y nL D ret I fin M pc L (.int x :: S) o := by
  by_cases hc : x = 0
  · exact J_lift (fun p l e R s m args below meth c E M0 _ cx H locs ls k n Q _ _ hl _ _ _ w => lv_if_eq cx.1 cx.2.1 d ht (fun _ => w ls hl) (fun h => absurd hc h)) (e1 hc ▸ k1 hc)
  · exact J_lift (fun p l e R s m args below meth c E M0 _ cx H locs ls k n Q _ _ hl _ _ _ w => lv_if_eq cx.1 cx.2.1 d ht (fun h => absurd h hc) (fun _ => w ls hl)) (e2 hc ▸ k2 hc)
theorem J_if_lt {x : Int32} {off : Int} (tgt : Nat) (d : decode cc pc = .ok (.ifCond .lt off, 3)) (ht : (pc : Int) + off = (tgt : Int)) (e1 : x < 0 → o = o1) (e2 : ¬ (x < 0) → o = o2) (k1 : x < 0 → JJ G cc y nL D ret I fin M tgt L S o1) (k2 : ¬ (x < 0) → JJ G cc y nL D ret I fin M (pc + 3) L S o2) : JJ G cc y nL D ret I fin M pc L (.int x :: S) o := by
  by_cases hc : x < 0
  · exact J_lift (fun p l e R s m args below meth c E M0 _ cx H locs ls k n Q _ _ hl _ _ _ w => lv_if_lt cx.1 cx.2.1 d ht (fun _ => w ls hl) (fun h => absurd hc h)) (e1 hc ▸ k1 hc)
  · exact J_lift (fun p l e R s m args below meth c E M0 _ cx H locs ls k n Q _ _ hl _ _ _ w => lv_if_lt cx.1 cx.2.1 d ht (fun h => absurd h hc) (fun _ => w ls hl)) (e2 hc ▸ k2 hc)
theorem J_if_ge {x : Int32} {off : Int} (tgt : Nat) (d : decode cc pc = .ok (.ifCond .ge off, 3)) (ht : (pc : Int) + off = (tgt : Int)) (e1 : 0 ≤ x → o = o1) (e2 : ¬ (0 ≤ x) → o = o2) (k1 : 0 ≤ x → JJ G cc y nL D ret I fin M tgt L S o1) (k2 : ¬ (0 ≤ x) → JJ G cc y nL D ret I fin M (pc + 3) L S o2) : JJ G cc y nL D ret I fin M pc L (.int x :: S) o := by
  by_cases hc : 0 ≤ x
  · exact J_lift (fun p l e R s m args below meth c E M0 _ cx H locs ls k n Q _ _ hl _ _ _ w => lv_if_ge cx.1 cx.2.1 d ht (fun _ => w ls hl) (fun h => absurd hc h)) (e1 hc ▸ k1 hc)
  · exact J_lift (fun p l e R s m args below meth c E M0 _ cx H locs ls k n Q _ _ hl _ _ _ w => lv_if_ge cx.1 cx.2.1 d ht (fun h => absurd h hc) (fun _ => w ls hl)) (e2 hc ▸ k2 hc)
theorem J_if_gt {x : Int32} {off : Int} (tgt : Nat) (d : decode cc pc = .ok (.ifCond .gt off, 3)) (ht : (pc : Int) + off = (tgt : Int)) (e1 : 0 < x → o = o1) (e2 : ¬ (0 < x) → o = o2) (k1 : 0 < x → JJ G cc y nL D ret I fin M tgt L S o1) (k2 : ¬ (0 < x) → JJ G cc y nL D ret I fin M (pc + 3) L S o2) : JJ G cc y nL D ret I fin M pc L (.int x :: S) o := by
  by_cases hc : 0 < x
  · exact J_lift (fun p l e R s m args below meth c E M0 _ cx H locs ls k n Q _ _ hl _ _ _ w => lv_if_gt cx.1 cx.2.1 d ht (fun _ => w ls hl) (fun h => absurd hc h)) (e1 hc ▸ k1 hc)
  · exact J_lift (fun p l e R s m args below meth c E M0 _ cx H locs ls k n Q _ _ hl _ _ _ w => lv_if_gt cx.1 cx.2.1 d ht (fun h => absurd h hc) (fun _ => w ls hl)) (e2 hc ▸ k2 hc)
theorem J_if_le {x : Int32} {off : Int} (tgt : Nat) (d : decode cc pc = .ok (.ifCond .le off, 3)) (ht : (pc : Int) + off = (tgt : Int)) (e1 : x ≤ 0 → o = o1) (e2 : ¬ (x ≤ 0) → o = o2) (k1 : x ≤ 0 → JJ G cc y nL D ret I fin M tgt L S o1) (k2 : ¬ (x ≤ 0) → JJ G cc y nL D ret I fin M (pc + 3) L S o2) : JJ G cc y nL D ret I fin M pc L (.int x :: S) o := by
  by_cases hc : x ≤ 0
  · exact J_lift (fun p l e R s m args below meth c E M0 _ cx H locs ls k n Q _ _ hl _ _ _ w => lv_if_le cx.1 cx.2.1 d ht (fun _ => w ls hl) (fun h => absurd hc h)) (e1 hc ▸ k1 hc)
  · exact J_lift (fun p l e R s m args below meth c E M0 _ cx H locs ls k n Q _ _ hl _ _ _ w => lv_if_le cx.1 cx.2.1 d ht (fun h => absurd h hc) (fun _ => w ls hl)) (e2 hc ▸ k2 hc)
theorem J_icmp_eq {a b : Int32} {off : Int} (tgt : Nat) (d : decode cc pc = .ok (.if_icmp .eq off, 3)) (ht : (pc : Int) + off = (tgt : Int)) (e1 : a = b → o = o1) (e2 : ¬ (a = b) → o = o2) (k1 : a = b → JJ G cc y nL D ret I fin M tgt L S o1) (k2 : ¬ (a = b) → JJ G cc y nL D ret I fin M (pc + 3) L S o2) : JJ G cc y nL D ret I fin M pc L (.int b :: .int a :: S) o := by
  by_cases hc : a = b
  · exact J_lift (fun p l e R s m args below meth c E M0 _ cx H locs ls k n Q _ _ hl _ _ _ w => lv_icmp_eq cx.1 cx.2.1 d ht (fun _ => w ls hl) (fun h => absurd hc h)) (e1 hc ▸ k1 hc)
  · exact J_lift (fun p l e R s m args below meth c E M0 _ cx H locs ls k n Q _ _ hl _ _ _ w => lv_icmp_eq cx.1 cx.2.1 d ht (fun h => absurd h hc) (fun _ => w ls hl)) (e2 hc ▸ k2 hc)
theorem J_icmp_lt {a b : Int32} {off : Int} (tgt : Nat) (d : decode cc pc = .ok (.if_icmp .lt off, 3)) (ht : (pc : Int) + off = (tgt : Int)) (e1 : a < b → o = o1) (e2 : ¬ (a < b) → o = o2) (k1 : a < b → JJ G cc y nL D ret I fin M tgt L S o1) (k2 : ¬ (a < b) → JJ G cc y nL D ret I fin M (pc + 3) L S o2) : JJ G cc y nL D ret I fin M pc L (.int b :: .int a :: S) o := by
  by_cases hc : a < b
  · exact J_lift (fun p l e R s m args below meth c E M0 _ cx H locs ls k n Q _ _ hl _ _ _ w => lv_icmp_lt cx.1 cx.2.1 d ht (fun _ => w ls hl) (fun h => absurd hc h)) (e1 hc ▸ k1 hc)
  · exact J_lift (fun p l e R s m args below meth c E M0 _ cx H locs ls k n Q _ _ hl _ _ _ w => lv_icmp_lt cx.1 cx.2.1 d ht (fun h => absurd h hc) (fun _ => w ls hl)) (e2 hc ▸ k2 hc)
theorem J_icmp_ge {a b : Int32} {off : Int} (tgt : Nat) (d : decode cc pc = .ok (.if_icmp .ge off, 3)) (ht : (pc : Int) + off = (tgt : Int)) (e1 : b ≤ a → o = o1) (e2 : ¬ (b ≤ a) → o = o2) (k1 : b ≤ a → JJ G cc y nL D ret I fin M tgt L S o1) (k2 : ¬ (b ≤ a) → JJ G cc y nL D ret I fin M (pc + 3) L S o2) : JJ G cc y nL D ret I fin M pc L (.int b :: .int a :: S) o := by
  by_cases hc : b ≤ a
  · exact J_lift (fun p l e R s m args below meth c E M0 _ cx H locs ls k n Q _ _ hl _ _ _ w => lv_icmp_ge cx.1 cx.2.1 d ht (fun _ => w ls hl) (fun h => absurd hc h)) (e1 hc ▸ k1 hc)
  · exact J_lift (fun p l e R s m args below meth c E M0 _ cx H locs ls k n Q _ _ hl _ _ _ w => lv_icmp_ge cx.1 cx.2.1 d ht (fun h => absurd h hc) (fun _ => w ls hl)) (e2 hc ▸ k2 hc)
theorem J_icmp_gt {a b : Int32} {off : Int} (tgt : Nat) (d : decode cc pc = .ok (.if_icmp .gt off, 3)) (ht : (pc : Int) + off = (tgt : Int)) (e1 : b < a → o = o1) (e2 : ¬ (b < a) → o = o2) (k1 : b < a → JJ G cc y nL D ret I fin M tgt L S o1) (k2 : ¬ (b < a) → JJ G cc y nL D ret I fin M (pc + 3) L S o2) : JJ G cc y nL D ret I fin M pc L (.int b :: .int a :: S) o := by
  by_cases hc : b < a
  · exact J_lift (fun p l e R s m args below meth c E M0 _ cx H locs ls k n Q _ _ hl _ _ _ w => lv_icmp_gt cx.1 cx.2.1 d ht (fun _ => w ls hl) (fun h => absurd hc h)) (e1 hc ▸ k1 hc)
  · exact J_lift (fun p l e R s m args below meth c E M0 _ cx H locs ls k n Q _ _ hl _ _ _ w => lv_icmp_gt cx.1 cx.2.1 d ht (fun h => absurd h hc) (fun _ => w ls hl)) (e2 hc ▸ k2 hc)
theorem J_icmp_le {a b : Int32} {off : Int} (tgt : Nat) (d : decode cc pc = .ok (.if_icmp .le off, 3)) (ht : (pc : Int) + off = (tgt : Int)) (e1 : a ≤ b → o = o1) (e2 : ¬ (a ≤ b) → o = o2) (k1 : a ≤ b → JJ G cc y nL D ret I fin M tgt L S o1) (k2 : ¬ (a ≤ b) → JJ G cc y nL D ret I fin M (pc + 3) L S o2) : JJ G cc y nL D ret I fin M pc L (.int b :: .int a :: S) o := by
  by_cases hc : a ≤ b
  · exact J_lift (fun p l e R s m args below meth c E M0 _ cx H locs ls k n Q _ _ hl _ _ _ w => lv_icmp_le cx.1 cx.2.1 d ht (fun _ => w ls hl) (fun h => absurd hc h)) (e1 hc ▸ k1 hc)
  · exact J_lift (fun p l e R s m args below meth c E M0 _ cx H locs ls k n Q _ _ hl _ _ _ w => lv_icmp_le cx.1 cx.2.1 d ht (fun h => absurd h hc) (fun _ => w ls hl)) (e2 hc ▸ k2 hc)
theorem J_goto {off : Int} (tgt : Nat) (d : decode cc pc = .ok (.goto off, 3)) (ht : (pc : Int) + off = (tgt : Int)) (k : JJ G cc y nL D ret I fin M tgt L S o) : JJ G cc y nL D ret I fin M pc L S o :=
  J_lift (fun p l e R s m args below meth c E M0 _ cx H locs ls k n Q _ _ hl _ _ _ w => lv_goto cx.1 cx.2.1 d ht (w ls hl)) k
theorem J_tableIn {dflt lo hi : Int} {offs : Array Int} {len : Nat} {x : Int32} {off : Int} (tgt : Nat) (d : decode cc pc = .ok (.tableswitch dflt lo hi offs, len)) (h1 : ¬ x.toInt < lo) (h2 : ¬ hi < x.toInt) (ho : offs[(x.toInt - lo).toNat]? = some off) (ht : (pc : Int) + off = (tgt : Int)) (k : JJ G cc y nL D ret I fin M tgt L S o) : JJ G cc y nL D ret I fin M pc L (.int x :: S) o :=
  J_lift (fun p l e R s m args below meth c E M0 _ cx H locs ls k n Q _ _ hl _ _ _ w => lv_tableIn cx.1 cx.2.1 d h1 h2 ho ht (w ls hl)) k
theorem J_tableOut {dflt lo hi : Int} {offs : Array Int} {len : Nat} {x : Int32} (tgt : Nat) (d : decode cc pc = .ok (.tableswitch dflt lo hi offs, len)) (h : x.toInt < lo ∨ hi < x.toInt) (ht : (pc : Int) + dflt = (tgt : Int)) (k : JJ G cc y nL D ret I fin M tgt L S o) : JJ G cc y nL D ret I fin M pc L (.int x :: S) o :=
  J_lift (fun p l e R s m args below meth c E M0 _ cx H locs ls k n Q _ _ hl _ _ _ w => lv_tableOut cx.1 cx.2.1 d h ht (w ls hl)) k
theorem J_lookup {dflt : Int} {ps : Array (Int × Int)} {len : Nat} {x : Int32} {off : Int} (tgt : Nat) (d : decode cc pc = .ok (.lookupswitch dflt ps, len)) (hp : (ps.toList.zip (ps.toList.drop 1)).all (fun (a, next) => a.1 < next.1) = true) (ho : Op.lookupswitch.offset ps.toList dflt x.toInt = off) (ht : (pc : Int) + off = (tgt : Int)) (k : JJ G cc y nL D ret I fin M tgt L S o) : JJ G cc y nL D ret I fin M pc L (.int x :: S) o :=
  J_lift (fun p l e R s m args below meth c E M0 _ cx H locs ls k n Q _ _ hl _ _ _ w => lv_lookup cx.1 cx.2.1 d hp ho ht (w ls hl)) k
theorem J_ifnull {r : Option Nat} {off : Int} (tgt : Nat) {f : Nat → Option (α × PM)} {L : Option Nat → List (Option Value)} {S : Option Nat → List Value} (d : decode cc pc = .ok (.ifnull off, 3)) (ht : (pc : Int) + off = (tgt : Int)) (k1 : JJ G cc y nL D ret I fin M tgt (L none) (S none) o1) (k2 : ∀ a, JJ G cc y nL D ret I fin M (pc + 3) (L (some a)) (S (some a)) (f a)) : JJ G cc y nL D ret I fin M pc (L r) (va_rf r :: S r) (nl r o1 f) := by
  cases r with
  | none => exact J_lift (fun p l e R s m args below meth c E M0 _ cx H locs ls k n Q _ _ hl _ _ _ w => lv_ifnullN cx.1 cx.2.1 d ht (w ls hl)) k1
  | some a => exact J_lift (fun p l e R s m args below meth c E M0 _ cx H locs ls k n Q _ _ hl _ _ _ w => lv_ifnull cx.1 cx.2.1 d (w ls hl)) (k2 a)
theorem J_ifnonnull {r : Option Nat} {off : Int} (tgt : Nat) {f : Nat → Option (α × PM)} {L : Option Nat → List (Option Value)} {S : Option Nat → List Value} (d : decode cc pc = .ok (.ifnonnull off, 3)) (ht : (pc : Int) + off = (tgt : Int)) (k1 : JJ G cc y nL D ret I fin M (pc + 3) (L none) (S none) o1) (k2 : ∀ a, JJ G cc y nL D ret I fin M tgt (L (some a)) (S (some a)) (f a)) : JJ G cc y nL D ret I fin M pc (L r) (va_rf r :: S r) (nl r o1 f) := by
  cases r with
  | none => exact J_lift (fun p l e R s m args below meth c E M0 _ cx H locs ls k n Q _ _ hl _ _ _ w => lv_ifnonnullN cx.1 cx.2.1 d (w ls hl)) k1
  | some a => exact J_lift (fun p l e R s m args below meth c E M0 _ cx H locs ls k n Q _ _ hl _ _ _ w => lv_ifnonnull cx.1 cx.2.1 d ht (w ls hl)) (k2 a)
theorem J_ldc {index : Nat} (v : Int32) (hc : Cond.constant y.cls index v ∈ lw_all) (d : decode cc pc = .ok (.ldc index, 2)) (k : JJ G cc y nL D ret I fin M (pc + 2) L (.int v :: S) o) : JJ G cc y nL D ret I fin M pc L S o :=
  J_lift (fun p l e R s m args below meth c E M0 _ cx H locs ls k n Q _ _ hl _ _ _ w => lv_ldc cx.1 cx.2.1 cx.2.2.2.1 (cx.2.2.2.2.1 _ hc) d (w ls hl)) k
theorem J_ldcw {index : Nat} (v : Int32) (hc : Cond.constant y.cls index v ∈ lw_all) (d : decode cc pc = .ok (.ldc_w index, 3)) (k : JJ G cc y nL D ret I fin M (pc + 3) L (.int v :: S) o) : JJ G cc y nL D ret I fin M pc L S o :=
  J_lift (fun p l e R s m args below meth c E M0 _ cx H locs ls k n Q _ _ hl _ _ _ w => lv_ldcw cx.1 cx.2.1 cx.2.2.2.1 (cx.2.2.2.2.1 _ hc) d (w ls hl)) k
theorem J_ldc2 {index : Nat} (v : Int64) (hc : Cond.constantLong y.cls index v ∈ lw_all) (d : decode cc pc = .ok (.ldc2_w index, 3)) (k : JJ G cc y nL D ret I fin M (pc + 3) L (.long v :: S) o) : JJ G cc y nL D ret I fin M pc L S o :=
  J_lift (fun p l e R s m args below meth c E M0 _ cx H locs ls k n Q _ _ hl _ _ _ w => lv_ldc2 cx.1 cx.2.1 cx.2.2.2.1 (cx.2.2.2.2.1 _ hc) d (w ls hl)) k
theorem J_ldcS {index i : Nat} {tx : String} (hi : strL[i]? = some (index, tx)) (hy : y.cls = "TollOnVowels") (d : decode cc pc = .ok (.ldc index, 2)) (k : JJ G cc y nL D ret I fin M (pc + 2) L (.ref (1 + i) :: S) o) : JJ G cc y nL D ret I fin M pc L S o :=
  J_lift (fun p l e R s m args below meth c E M0 _ cx H locs ls k n Q _ _ hl _ _ _ w => va_ldcS cx.1 cx.2.1 cx.2.2.2.1 (by rw [hy]; exact cx.2.2.2.2.2.2.1.2.2.2.2.2 i _ hi) d (w ls hl)) k
end JR

