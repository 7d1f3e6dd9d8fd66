set_option maxRecDepth 100000
/-! DECODE ROWS BY BYTES: one lemma an opcode; a method's code is cut into short pieces once, and a row reads its own piece alone. -/
set_option maxRecDepth 100000
/-- the code has just these bytes from pc on -/
def DkAt (code : ByteArray) (pc : Nat) (bs : List UInt8) : Prop := ∀ (j : Nat) (b : UInt8), bs[j]? = some b → code.data.toList[pc + j]? = some b
/-- the piece W has the bytes bs from its place j on -/
def dkIn (W : List UInt8) (j : Nat) (bs : List UInt8) : Bool := decide ((W.drop j).take bs.length = bs)
theorem dk_seg {l W T : List UInt8} {o o2 : Nat} (h : l.drop o = W ++ T) (n : Nat) (hn : W.length = n) (ho : o + n = o2) : l.drop o2 = T := by
  subst ho
  rw [← List.drop_drop, h, List.drop_left' hn]
theorem dk_at {code : ByteArray} {W T bs : List UInt8} {o pc : Nat} (h : code.data.toList.drop o = W ++ T) (j : Nat) (hp : o + j = pc) (hw : dkIn W j bs = true) : DkAt code pc bs := by
  subst hp
  intro i b e
  have h1 := of_decide_eq_true hw
  have h2 : i < bs.length := (List.getElem?_eq_some_iff.mp e).1
  have h3 : W[j + i]? = some b := by
    rw [← h1, List.getElem?_take, if_pos h2, List.getElem?_drop] at e
    exact e
  have h4 : j + i < W.length := (List.getElem?_eq_some_iff.mp h3).1
  have h5 : (code.data.toList.drop o)[j + i]? = some b := by
    rw [h, List.getElem?_append_left h4]
    exact h3
  rw [List.getElem?_drop, ← Nat.add_assoc] at h5
  exact h5
theorem dk_u1 {A : ByteArray} {p : Nat} {b : UInt8} (h : A.data.toList[p]? = some b) : (Reader.u1 : Reader DecodeError Nat) A p = .ok (b.toNat, p + 1) := by
  obtain ⟨h1, h2⟩ := List.getElem?_eq_some_iff.mp h
  have h3 : p < A.size := by simpa using h1
  have h4 : A[p]'h3 = b := h2
  have e : (Reader.u1 : Reader DecodeError Nat) A p = (if h : p < A.size then .ok (A[p].toNat, p + 1) else .error (HasTruncated.truncated p)) := by
    show (do if h : p < A.size then do set (p + 1); Pure.pure A[p].toNat else MonadExcept.throw (HasTruncated.truncated p) : Reader DecodeError Nat) A p = _
    by_cases hi : p < A.size
    · rw [dif_pos hi, dif_pos hi]; rfl
    · rw [dif_neg hi, dif_neg hi]; rfl
  rw [e, dif_pos h3, h4]
theorem dk_bind {α β : Type} {r : Reader DecodeError α} {f : α → Reader DecodeError β} {A : ByteArray} {p s : Nat} {a : α} (h : r A p = .ok (a, s)) : (r >>= f) A p = f a A s := by
  show (do let (a, s) ← r A p; f a A s : Except DecodeError (β × Nat)) = _
  rw [h]
  rfl
theorem dk_map {α β : Type} {r : Reader DecodeError α} {g : α → β} {A : ByteArray} {p s : Nat} {a : α} (h : r A p = .ok (a, s)) : (g <$> r) A p = .ok (g a, s) := by
  show (do let (a, s) ← r A p; .ok (g a, s) : Except DecodeError (β × Nat)) = _
  rw [h]
  rfl
theorem dk_u2 {A : ByteArray} {p : Nat} {a b : UInt8} (h : A.data.toList[p]? = some a) (h2 : A.data.toList[p + 1]? = some b) : (Reader.u2 : Reader DecodeError Nat) A p = .ok (a.toNat * 256 + b.toNat, p + 2) := by
  show (Reader.u1 >>= fun hi => Reader.u1 >>= fun lo => Pure.pure (hi * 256 + lo) : Reader DecodeError Nat) A p = _
  rw [dk_bind (dk_u1 h), dk_bind (dk_u1 h2)]
  rfl
theorem dk_of {code : ByteArray} {pc n : Nat} {i : Instr} (h : Decoder.instr pc code pc = .ok (i, pc + n)) : decode code pc = .ok (i, n) := by
  have e : decode code pc = (match Decoder.instr pc code pc with | .error x => .error x | .ok (j, s) => .ok (j, s - pc)) := by
    show (do let (j, s) ← Decoder.instr pc code pc; Pure.pure (j, s - pc) : Except DecodeError (Instr × Nat)) = _
    cases Decoder.instr pc code pc <;> rfl
  rw [e, h]
  show Except.ok (i, pc + n - pc) = _
  rw [Nat.add_sub_cancel_left]
theorem dk_1 {code : ByteArray} {pc : Nat} (h : DkAt code pc [1]) : decode code pc = .ok (.aconst_null, 1) := dk_of ((dk_bind (dk_u1 (h 0 _ rfl))).trans rfl)
theorem dk_2 {code : ByteArray} {pc : Nat} (h : DkAt code pc [2]) : decode code pc = .ok (.iconst (-1), 1) := dk_of ((dk_bind (dk_u1 (h 0 _ rfl))).trans rfl)
theorem dk_3 {code : ByteArray} {pc : Nat} (h : DkAt code pc [3]) : decode code pc = .ok (.iconst 0, 1) := dk_of ((dk_bind (dk_u1 (h 0 _ rfl))).trans rfl)
theorem dk_4 {code : ByteArray} {pc : Nat} (h : DkAt code pc [4]) : decode code pc = .ok (.iconst 1, 1) := dk_of ((dk_bind (dk_u1 (h 0 _ rfl))).trans rfl)
theorem dk_5 {code : ByteArray} {pc : Nat} (h : DkAt code pc [5]) : decode code pc = .ok (.iconst 2, 1) := dk_of ((dk_bind (dk_u1 (h 0 _ rfl))).trans rfl)
theorem dk_6 {code : ByteArray} {pc : Nat} (h : DkAt code pc [6]) : decode code pc = .ok (.iconst 3, 1) := dk_of ((dk_bind (dk_u1 (h 0 _ rfl))).trans rfl)
theorem dk_7 {code : ByteArray} {pc : Nat} (h : DkAt code pc [7]) : decode code pc = .ok (.iconst 4, 1) := dk_of ((dk_bind (dk_u1 (h 0 _ rfl))).trans rfl)
theorem dk_8 {code : ByteArray} {pc : Nat} (h : DkAt code pc [8]) : decode code pc = .ok (.iconst 5, 1) := dk_of ((dk_bind (dk_u1 (h 0 _ rfl))).trans rfl)
theorem dk_9 {code : ByteArray} {pc : Nat} (h : DkAt code pc [9]) : decode code pc = .ok (.lconst 0, 1) := dk_of ((dk_bind (dk_u1 (h 0 _ rfl))).trans rfl)
theorem dk_10 {code : ByteArray} {pc : Nat} (h : DkAt code pc [10]) : decode code pc = .ok (.lconst 1, 1) := dk_of ((dk_bind (dk_u1 (h 0 _ rfl))).trans rfl)
theorem dk_16 {code : ByteArray} {pc : Nat} (a : UInt8) (h : DkAt code pc [16, a]) : decode code pc = .ok (.bipush (Reader.signed 8 a.toNat), 2) := dk_of ((dk_bind (dk_u1 (h 0 _ rfl))).trans ((dk_bind (dk_map (dk_u1 (h 1 _ rfl)))).trans rfl))
theorem dk_17 {code : ByteArray} {pc : Nat} (a b : UInt8) (h : DkAt code pc [17, a, b]) : decode code pc = .ok (.sipush (Reader.signed 16 (a.toNat * 256 + b.toNat)), 3) := dk_of ((dk_bind (dk_u1 (h 0 _ rfl))).trans ((dk_bind (dk_map (dk_u2 (h 1 _ rfl) (h 2 _ rfl)))).trans rfl))
theorem dk_18 {code : ByteArray} {pc : Nat} (a : UInt8) (h : DkAt code pc [18, a]) : decode code pc = .ok (.ldc a.toNat, 2) := dk_of ((dk_bind (dk_u1 (h 0 _ rfl))).trans ((dk_bind (dk_u1 (h 1 _ rfl))).trans rfl))
theorem dk_19 {code : ByteArray} {pc : Nat} (a b : UInt8) (h : DkAt code pc [19, a, b]) : decode code pc = .ok (.ldc_w (a.toNat * 256 + b.toNat), 3) := dk_of ((dk_bind (dk_u1 (h 0 _ rfl))).trans ((dk_bind (dk_u2 (h 1 _ rfl) (h 2 _ rfl))).trans rfl))
theorem dk_20 {code : ByteArray} {pc : Nat} (a b : UInt8) (h : DkAt code pc [20, a, b]) : decode code pc = .ok (.ldc2_w (a.toNat * 256 + b.toNat), 3) := dk_of ((dk_bind (dk_u1 (h 0 _ rfl))).trans ((dk_bind (dk_u2 (h 1 _ rfl) (h 2 _ rfl))).trans rfl))
theorem dk_21 {code : ByteArray} {pc : Nat} (a : UInt8) (h : DkAt code pc [21, a]) : decode code pc = .ok (.iload a.toNat, 2) := dk_of ((dk_bind (dk_u1 (h 0 _ rfl))).trans ((dk_bind (dk_u1 (h 1 _ rfl))).trans rfl))
theorem dk_22 {code : ByteArray} {pc : Nat} (a : UInt8) (h : DkAt code pc [22, a]) : decode code pc = .ok (.lload a.toNat, 2) := dk_of ((dk_bind (dk_u1 (h 0 _ rfl))).trans ((dk_bind (dk_u1 (h 1 _ rfl))).trans rfl))
theorem dk_25 {code : ByteArray} {pc : Nat} (a : UInt8) (h : DkAt code pc [25, a]) : decode code pc = .ok (.aload a.toNat, 2) := dk_of ((dk_bind (dk_u1 (h 0 _ rfl))).trans ((dk_bind (dk_u1 (h 1 _ rfl))).trans rfl))
theorem dk_26 {code : ByteArray} {pc : Nat} (h : DkAt code pc [26]) : decode code pc = .ok (.iload_n 0, 1) := dk_of ((dk_bind (dk_u1 (h 0 _ rfl))).trans rfl)
theorem dk_27 {code : ByteArray} {pc : Nat} (h : DkAt code pc [27]) : decode code pc = .ok (.iload_n 1, 1) := dk_of ((dk_bind (dk_u1 (h 0 _ rfl))).trans rfl)
theorem dk_28 {code : ByteArray} {pc : Nat} (h : DkAt code pc [28]) : decode code pc = .ok (.iload_n 2, 1) := dk_of ((dk_bind (dk_u1 (h 0 _ rfl))).trans rfl)
theorem dk_29 {code : ByteArray} {pc : Nat} (h : DkAt code pc [29]) : decode code pc = .ok (.iload_n 3, 1) := dk_of ((dk_bind (dk_u1 (h 0 _ rfl))).trans rfl)
theorem dk_30 {code : ByteArray} {pc : Nat} (h : DkAt code pc [30]) : decode code pc = .ok (.lload_n 0, 1) := dk_of ((dk_bind (dk_u1 (h 0 _ rfl))).trans rfl)
theorem dk_31 {code : ByteArray} {pc : Nat} (h : DkAt code pc [31]) : decode code pc = .ok (.lload_n 1, 1) := dk_of ((dk_bind (dk_u1 (h 0 _ rfl))).trans rfl)
theorem dk_32 {code : ByteArray} {pc : Nat} (h : DkAt code pc [32]) : decode code pc = .ok (.lload_n 2, 1) := dk_of ((dk_bind (dk_u1 (h 0 _ rfl))).trans rfl)
theorem dk_33 {code : ByteArray} {pc : Nat} (h : DkAt code pc [33]) : decode code pc = .ok (.lload_n 3, 1) := dk_of ((dk_bind (dk_u1 (h 0 _ rfl))).trans rfl)
theorem dk_42 {code : ByteArray} {pc : Nat} (h : DkAt code pc [42]) : decode code pc = .ok (.aload_n 0, 1) := dk_of ((dk_bind (dk_u1 (h 0 _ rfl))).trans rfl)
theorem dk_43 {code : ByteArray} {pc : Nat} (h : DkAt code pc [43]) : decode code pc = .ok (.aload_n 1, 1) := dk_of ((dk_bind (dk_u1 (h 0 _ rfl))).trans rfl)
theorem dk_44 {code : ByteArray} {pc : Nat} (h : DkAt code pc [44]) : decode code pc = .ok (.aload_n 2, 1) := dk_of ((dk_bind (dk_u1 (h 0 _ rfl))).trans rfl)
theorem dk_45 {code : ByteArray} {pc : Nat} (h : DkAt code pc [45]) : decode code pc = .ok (.aload_n 3, 1) := dk_of ((dk_bind (dk_u1 (h 0 _ rfl))).trans rfl)
theorem dk_46 {code : ByteArray} {pc : Nat} (h : DkAt code pc [46]) : decode code pc = .ok (.iaload, 1) := dk_of ((dk_bind (dk_u1 (h 0 _ rfl))).trans rfl)
theorem dk_47 {code : ByteArray} {pc : Nat} (h : DkAt code pc [47]) : decode code pc = .ok (.laload, 1) := dk_of ((dk_bind (dk_u1 (h 0 _ rfl))).trans rfl)
theorem dk_50 {code : ByteArray} {pc : Nat} (h : DkAt code pc [50]) : decode code pc = .ok (.aaload, 1) := dk_of ((dk_bind (dk_u1 (h 0 _ rfl))).trans rfl)
theorem dk_51 {code : ByteArray} {pc : Nat} (h : DkAt code pc [51]) : decode code pc = .ok (.baload, 1) := dk_of ((dk_bind (dk_u1 (h 0 _ rfl))).trans rfl)
theorem dk_54 {code : ByteArray} {pc : Nat} (a : UInt8) (h : DkAt code pc [54, a]) : decode code pc = .ok (.istore a.toNat, 2) := dk_of ((dk_bind (dk_u1 (h 0 _ rfl))).trans ((dk_bind (dk_u1 (h 1 _ rfl))).trans rfl))
theorem dk_55 {code : ByteArray} {pc : Nat} (a : UInt8) (h : DkAt code pc [55, a]) : decode code pc = .ok (.lstore a.toNat, 2) := dk_of ((dk_bind (dk_u1 (h 0 _ rfl))).trans ((dk_bind (dk_u1 (h 1 _ rfl))).trans rfl))
theorem dk_58 {code : ByteArray} {pc : Nat} (a : UInt8) (h : DkAt code pc [58, a]) : decode code pc = .ok (.astore a.toNat, 2) := dk_of ((dk_bind (dk_u1 (h 0 _ rfl))).trans ((dk_bind (dk_u1 (h 1 _ rfl))).trans rfl))
theorem dk_59 {code : ByteArray} {pc : Nat} (h : DkAt code pc [59]) : decode code pc = .ok (.istore_n 0, 1) := dk_of ((dk_bind (dk_u1 (h 0 _ rfl))).trans rfl)
theorem dk_60 {code : ByteArray} {pc : Nat} (h : DkAt code pc [60]) : decode code pc = .ok (.istore_n 1, 1) := dk_of ((dk_bind (dk_u1 (h 0 _ rfl))).trans rfl)
theorem dk_61 {code : ByteArray} {pc : Nat} (h : DkAt code pc [61]) : decode code pc = .ok (.istore_n 2, 1) := dk_of ((dk_bind (dk_u1 (h 0 _ rfl))).trans rfl)
theorem dk_62 {code : ByteArray} {pc : Nat} (h : DkAt code pc [62]) : decode code pc = .ok (.istore_n 3, 1) := dk_of ((dk_bind (dk_u1 (h 0 _ rfl))).trans rfl)
theorem dk_66 {code : ByteArray} {pc : Nat} (h : DkAt code pc [66]) : decode code pc = .ok (.lstore_n 3, 1) := dk_of ((dk_bind (dk_u1 (h 0 _ rfl))).trans rfl)
theorem dk_76 {code : ByteArray} {pc : Nat} (h : DkAt code pc [76]) : decode code pc = .ok (.astore_n 1, 1) := dk_of ((dk_bind (dk_u1 (h 0 _ rfl))).trans rfl)
theorem dk_77 {code : ByteArray} {pc : Nat} (h : DkAt code pc [77]) : decode code pc = .ok (.astore_n 2, 1) := dk_of ((dk_bind (dk_u1 (h 0 _ rfl))).trans rfl)
theorem dk_78 {code : ByteArray} {pc : Nat} (h : DkAt code pc [78]) : decode code pc = .ok (.astore_n 3, 1) := dk_of ((dk_bind (dk_u1 (h 0 _ rfl))).trans rfl)
theorem dk_79 {code : ByteArray} {pc : Nat} (h : DkAt code pc [79]) : decode code pc = .ok (.iastore, 1) := dk_of ((dk_bind (dk_u1 (h 0 _ rfl))).trans rfl)
theorem dk_80 {code : ByteArray} {pc : Nat} (h : DkAt code pc [80]) : decode code pc = .ok (.lastore, 1) := dk_of ((dk_bind (dk_u1 (h 0 _ rfl))).trans rfl)
theorem dk_83 {code : ByteArray} {pc : Nat} (h : DkAt code pc [83]) : decode code pc = .ok (.aastore, 1) := dk_of ((dk_bind (dk_u1 (h 0 _ rfl))).trans rfl)
theorem dk_84 {code : ByteArray} {pc : Nat} (h : DkAt code pc [84]) : decode code pc = .ok (.bastore, 1) := dk_of ((dk_bind (dk_u1 (h 0 _ rfl))).trans rfl)
theorem dk_87 {code : ByteArray} {pc : Nat} (h : DkAt code pc [87]) : decode code pc = .ok (.pop, 1) := dk_of ((dk_bind (dk_u1 (h 0 _ rfl))).trans rfl)
theorem dk_89 {code : ByteArray} {pc : Nat} (h : DkAt code pc [89]) : decode code pc = .ok (.dup, 1) := dk_of ((dk_bind (dk_u1 (h 0 _ rfl))).trans rfl)
theorem dk_90 {code : ByteArray} {pc : Nat} (h : DkAt code pc [90]) : decode code pc = .ok (.dup_x1, 1) := dk_of ((dk_bind (dk_u1 (h 0 _ rfl))).trans rfl)
theorem dk_92 {code : ByteArray} {pc : Nat} (h : DkAt code pc [92]) : decode code pc = .ok (.dup2, 1) := dk_of ((dk_bind (dk_u1 (h 0 _ rfl))).trans rfl)
theorem dk_96 {code : ByteArray} {pc : Nat} (h : DkAt code pc [96]) : decode code pc = .ok (.iadd, 1) := dk_of ((dk_bind (dk_u1 (h 0 _ rfl))).trans rfl)
theorem dk_97 {code : ByteArray} {pc : Nat} (h : DkAt code pc [97]) : decode code pc = .ok (.ladd, 1) := dk_of ((dk_bind (dk_u1 (h 0 _ rfl))).trans rfl)
theorem dk_100 {code : ByteArray} {pc : Nat} (h : DkAt code pc [100]) : decode code pc = .ok (.isub, 1) := dk_of ((dk_bind (dk_u1 (h 0 _ rfl))).trans rfl)
theorem dk_104 {code : ByteArray} {pc : Nat} (h : DkAt code pc [104]) : decode code pc = .ok (.imul, 1) := dk_of ((dk_bind (dk_u1 (h 0 _ rfl))).trans rfl)
theorem dk_105 {code : ByteArray} {pc : Nat} (h : DkAt code pc [105]) : decode code pc = .ok (.lmul, 1) := dk_of ((dk_bind (dk_u1 (h 0 _ rfl))).trans rfl)
theorem dk_108 {code : ByteArray} {pc : Nat} (h : DkAt code pc [108]) : decode code pc = .ok (.idiv, 1) := dk_of ((dk_bind (dk_u1 (h 0 _ rfl))).trans rfl)
theorem dk_109 {code : ByteArray} {pc : Nat} (h : DkAt code pc [109]) : decode code pc = .ok (.ldiv, 1) := dk_of ((dk_bind (dk_u1 (h 0 _ rfl))).trans rfl)
theorem dk_112 {code : ByteArray} {pc : Nat} (h : DkAt code pc [112]) : decode code pc = .ok (.irem, 1) := dk_of ((dk_bind (dk_u1 (h 0 _ rfl))).trans rfl)
theorem dk_113 {code : ByteArray} {pc : Nat} (h : DkAt code pc [113]) : decode code pc = .ok (.lrem, 1) := dk_of ((dk_bind (dk_u1 (h 0 _ rfl))).trans rfl)
theorem dk_116 {code : ByteArray} {pc : Nat} (h : DkAt code pc [116]) : decode code pc = .ok (.ineg, 1) := dk_of ((dk_bind (dk_u1 (h 0 _ rfl))).trans rfl)
theorem dk_120 {code : ByteArray} {pc : Nat} (h : DkAt code pc [120]) : decode code pc = .ok (.ishl, 1) := dk_of ((dk_bind (dk_u1 (h 0 _ rfl))).trans rfl)
theorem dk_122 {code : ByteArray} {pc : Nat} (h : DkAt code pc [122]) : decode code pc = .ok (.ishr, 1) := dk_of ((dk_bind (dk_u1 (h 0 _ rfl))).trans rfl)
theorem dk_124 {code : ByteArray} {pc : Nat} (h : DkAt code pc [124]) : decode code pc = .ok (.iushr, 1) := dk_of ((dk_bind (dk_u1 (h 0 _ rfl))).trans rfl)
theorem dk_126 {code : ByteArray} {pc : Nat} (h : DkAt code pc [126]) : decode code pc = .ok (.iand, 1) := dk_of ((dk_bind (dk_u1 (h 0 _ rfl))).trans rfl)
theorem dk_128 {code : ByteArray} {pc : Nat} (h : DkAt code pc [128]) : decode code pc = .ok (.ior, 1) := dk_of ((dk_bind (dk_u1 (h 0 _ rfl))).trans rfl)
theorem dk_130 {code : ByteArray} {pc : Nat} (h : DkAt code pc [130]) : decode code pc = .ok (.ixor, 1) := dk_of ((dk_bind (dk_u1 (h 0 _ rfl))).trans rfl)
theorem dk_132 {code : ByteArray} {pc : Nat} (a b : UInt8) (h : DkAt code pc [132, a, b]) : decode code pc = .ok (.iinc a.toNat (Reader.signed 8 b.toNat), 3) := dk_of ((dk_bind (dk_u1 (h 0 _ rfl))).trans ((dk_bind (dk_u1 (h 1 _ rfl))).trans ((dk_bind (dk_map (dk_u1 (h 2 _ rfl)))).trans rfl)))
theorem dk_133 {code : ByteArray} {pc : Nat} (h : DkAt code pc [133]) : decode code pc = .ok (.i2l, 1) := dk_of ((dk_bind (dk_u1 (h 0 _ rfl))).trans rfl)
theorem dk_145 {code : ByteArray} {pc : Nat} (h : DkAt code pc [145]) : decode code pc = .ok (.i2b, 1) := dk_of ((dk_bind (dk_u1 (h 0 _ rfl))).trans rfl)
theorem dk_146 {code : ByteArray} {pc : Nat} (h : DkAt code pc [146]) : decode code pc = .ok (.i2c, 1) := dk_of ((dk_bind (dk_u1 (h 0 _ rfl))).trans rfl)
theorem dk_147 {code : ByteArray} {pc : Nat} (h : DkAt code pc [147]) : decode code pc = .ok (.i2s, 1) := dk_of ((dk_bind (dk_u1 (h 0 _ rfl))).trans rfl)
theorem dk_148 {code : ByteArray} {pc : Nat} (h : DkAt code pc [148]) : decode code pc = .ok (.lcmp, 1) := dk_of ((dk_bind (dk_u1 (h 0 _ rfl))).trans rfl)
theorem dk_153 {code : ByteArray} {pc : Nat} (a b : UInt8) (h : DkAt code pc [153, a, b]) : decode code pc = .ok (.ifCond .eq (Reader.signed 16 (a.toNat * 256 + b.toNat)), 3) := dk_of ((dk_bind (dk_u1 (h 0 _ rfl))).trans ((dk_bind (dk_map (dk_u2 (h 1 _ rfl) (h 2 _ rfl)))).trans rfl))
theorem dk_154 {code : ByteArray} {pc : Nat} (a b : UInt8) (h : DkAt code pc [154, a, b]) : decode code pc = .ok (.ifCond .ne (Reader.signed 16 (a.toNat * 256 + b.toNat)), 3) := dk_of ((dk_bind (dk_u1 (h 0 _ rfl))).trans ((dk_bind (dk_map (dk_u2 (h 1 _ rfl) (h 2 _ rfl)))).trans rfl))
theorem dk_155 {code : ByteArray} {pc : Nat} (a b : UInt8) (h : DkAt code pc [155, a, b]) : decode code pc = .ok (.ifCond .lt (Reader.signed 16 (a.toNat * 256 + b.toNat)), 3) := dk_of ((dk_bind (dk_u1 (h 0 _ rfl))).trans ((dk_bind (dk_map (dk_u2 (h 1 _ rfl) (h 2 _ rfl)))).trans rfl))
theorem dk_156 {code : ByteArray} {pc : Nat} (a b : UInt8) (h : DkAt code pc [156, a, b]) : decode code pc = .ok (.ifCond .ge (Reader.signed 16 (a.toNat * 256 + b.toNat)), 3) := dk_of ((dk_bind (dk_u1 (h 0 _ rfl))).trans ((dk_bind (dk_map (dk_u2 (h 1 _ rfl) (h 2 _ rfl)))).trans rfl))
theorem dk_157 {code : ByteArray} {pc : Nat} (a b : UInt8) (h : DkAt code pc [157, a, b]) : decode code pc = .ok (.ifCond .gt (Reader.signed 16 (a.toNat * 256 + b.toNat)), 3) := dk_of ((dk_bind (dk_u1 (h 0 _ rfl))).trans ((dk_bind (dk_map (dk_u2 (h 1 _ rfl) (h 2 _ rfl)))).trans rfl))
theorem dk_158 {code : ByteArray} {pc : Nat} (a b : UInt8) (h : DkAt code pc [158, a, b]) : decode code pc = .ok (.ifCond .le (Reader.signed 16 (a.toNat * 256 + b.toNat)), 3) := dk_of ((dk_bind (dk_u1 (h 0 _ rfl))).trans ((dk_bind (dk_map (dk_u2 (h 1 _ rfl) (h 2 _ rfl)))).trans rfl))
theorem dk_159 {code : ByteArray} {pc : Nat} (a b : UInt8) (h : DkAt code pc [159, a, b]) : decode code pc = .ok (.if_icmp .eq (Reader.signed 16 (a.toNat * 256 + b.toNat)), 3) := dk_of ((dk_bind (dk_u1 (h 0 _ rfl))).trans ((dk_bind (dk_map (dk_u2 (h 1 _ rfl) (h 2 _ rfl)))).trans rfl))
theorem dk_160 {code : ByteArray} {pc : Nat} (a b : UInt8) (h : DkAt code pc [160, a, b]) : decode code pc = .ok (.if_icmp .ne (Reader.signed 16 (a.toNat * 256 + b.toNat)), 3) := dk_of ((dk_bind (dk_u1 (h 0 _ rfl))).trans ((dk_bind (dk_map (dk_u2 (h 1 _ rfl) (h 2 _ rfl)))).trans rfl))
theorem dk_161 {code : ByteArray} {pc : Nat} (a b : UInt8) (h : DkAt code pc [161, a, b]) : decode code pc = .ok (.if_icmp .lt (Reader.signed 16 (a.toNat * 256 + b.toNat)), 3) := dk_of ((dk_bind (dk_u1 (h 0 _ rfl))).trans ((dk_bind (dk_map (dk_u2 (h 1 _ rfl) (h 2 _ rfl)))).trans rfl))
theorem dk_162 {code : ByteArray} {pc : Nat} (a b : UInt8) (h : DkAt code pc [162, a, b]) : decode code pc = .ok (.if_icmp .ge (Reader.signed 16 (a.toNat * 256 + b.toNat)), 3) := dk_of ((dk_bind (dk_u1 (h 0 _ rfl))).trans ((dk_bind (dk_map (dk_u2 (h 1 _ rfl) (h 2 _ rfl)))).trans rfl))
theorem dk_163 {code : ByteArray} {pc : Nat} (a b : UInt8) (h : DkAt code pc [163, a, b]) : decode code pc = .ok (.if_icmp .gt (Reader.signed 16 (a.toNat * 256 + b.toNat)), 3) := dk_of ((dk_bind (dk_u1 (h 0 _ rfl))).trans ((dk_bind (dk_map (dk_u2 (h 1 _ rfl) (h 2 _ rfl)))).trans rfl))
theorem dk_164 {code : ByteArray} {pc : Nat} (a b : UInt8) (h : DkAt code pc [164, a, b]) : decode code pc = .ok (.if_icmp .le (Reader.signed 16 (a.toNat * 256 + b.toNat)), 3) := dk_of ((dk_bind (dk_u1 (h 0 _ rfl))).trans ((dk_bind (dk_map (dk_u2 (h 1 _ rfl) (h 2 _ rfl)))).trans rfl))
theorem dk_167 {code : ByteArray} {pc : Nat} (a b : UInt8) (h : DkAt code pc [167, a, b]) : decode code pc = .ok (.goto (Reader.signed 16 (a.toNat * 256 + b.toNat)), 3) := dk_of ((dk_bind (dk_u1 (h 0 _ rfl))).trans ((dk_bind (dk_map (dk_u2 (h 1 _ rfl) (h 2 _ rfl)))).trans rfl))
theorem dk_172 {code : ByteArray} {pc : Nat} (h : DkAt code pc [172]) : decode code pc = .ok (.ireturn, 1) := dk_of ((dk_bind (dk_u1 (h 0 _ rfl))).trans rfl)
theorem dk_173 {code : ByteArray} {pc : Nat} (h : DkAt code pc [173]) : decode code pc = .ok (.lreturn, 1) := dk_of ((dk_bind (dk_u1 (h 0 _ rfl))).trans rfl)
theorem dk_176 {code : ByteArray} {pc : Nat} (h : DkAt code pc [176]) : decode code pc = .ok (.areturn, 1) := dk_of ((dk_bind (dk_u1 (h 0 _ rfl))).trans rfl)
theorem dk_177 {code : ByteArray} {pc : Nat} (h : DkAt code pc [177]) : decode code pc = .ok (.return_, 1) := dk_of ((dk_bind (dk_u1 (h 0 _ rfl))).trans rfl)
theorem dk_178 {code : ByteArray} {pc : Nat} (a b : UInt8) (h : DkAt code pc [178, a, b]) : decode code pc = .ok (.getstatic (a.toNat * 256 + b.toNat), 3) := dk_of ((dk_bind (dk_u1 (h 0 _ rfl))).trans ((dk_bind (dk_u2 (h 1 _ rfl) (h 2 _ rfl))).trans rfl))
theorem dk_180 {code : ByteArray} {pc : Nat} (a b : UInt8) (h : DkAt code pc [180, a, b]) : decode code pc = .ok (.getfield (a.toNat * 256 + b.toNat), 3) := dk_of ((dk_bind (dk_u1 (h 0 _ rfl))).trans ((dk_bind (dk_u2 (h 1 _ rfl) (h 2 _ rfl))).trans rfl))
theorem dk_181 {code : ByteArray} {pc : Nat} (a b : UInt8) (h : DkAt code pc [181, a, b]) : decode code pc = .ok (.putfield (a.toNat * 256 + b.toNat), 3) := dk_of ((dk_bind (dk_u1 (h 0 _ rfl))).trans ((dk_bind (dk_u2 (h 1 _ rfl) (h 2 _ rfl))).trans rfl))
theorem dk_182 {code : ByteArray} {pc : Nat} (a b : UInt8) (h : DkAt code pc [182, a, b]) : decode code pc = .ok (.invokevirtual (a.toNat * 256 + b.toNat), 3) := dk_of ((dk_bind (dk_u1 (h 0 _ rfl))).trans ((dk_bind (dk_u2 (h 1 _ rfl) (h 2 _ rfl))).trans rfl))
theorem dk_183 {code : ByteArray} {pc : Nat} (a b : UInt8) (h : DkAt code pc [183, a, b]) : decode code pc = .ok (.invokespecial (a.toNat * 256 + b.toNat), 3) := dk_of ((dk_bind (dk_u1 (h 0 _ rfl))).trans ((dk_bind (dk_u2 (h 1 _ rfl) (h 2 _ rfl))).trans rfl))
theorem dk_184 {code : ByteArray} {pc : Nat} (a b : UInt8) (h : DkAt code pc [184, a, b]) : decode code pc = .ok (.invokestatic (a.toNat * 256 + b.toNat), 3) := dk_of ((dk_bind (dk_u1 (h 0 _ rfl))).trans ((dk_bind (dk_u2 (h 1 _ rfl) (h 2 _ rfl))).trans rfl))
theorem dk_187 {code : ByteArray} {pc : Nat} (a b : UInt8) (h : DkAt code pc [187, a, b]) : decode code pc = .ok (.new (a.toNat * 256 + b.toNat), 3) := dk_of ((dk_bind (dk_u1 (h 0 _ rfl))).trans ((dk_bind (dk_u2 (h 1 _ rfl) (h 2 _ rfl))).trans rfl))
theorem dk_188_4 {code : ByteArray} {pc : Nat} (h : DkAt code pc [188, 4]) : decode code pc = .ok (.newarray .boolean, 2) := dk_of ((dk_bind (dk_u1 (h 0 _ rfl))).trans ((dk_bind (dk_u1 (h 1 _ rfl))).trans rfl))
theorem dk_188_8 {code : ByteArray} {pc : Nat} (h : DkAt code pc [188, 8]) : decode code pc = .ok (.newarray .byte, 2) := dk_of ((dk_bind (dk_u1 (h 0 _ rfl))).trans ((dk_bind (dk_u1 (h 1 _ rfl))).trans rfl))
theorem dk_188_10 {code : ByteArray} {pc : Nat} (h : DkAt code pc [188, 10]) : decode code pc = .ok (.newarray .int, 2) := dk_of ((dk_bind (dk_u1 (h 0 _ rfl))).trans ((dk_bind (dk_u1 (h 1 _ rfl))).trans rfl))
theorem dk_188_11 {code : ByteArray} {pc : Nat} (h : DkAt code pc [188, 11]) : decode code pc = .ok (.newarray .long, 2) := dk_of ((dk_bind (dk_u1 (h 0 _ rfl))).trans ((dk_bind (dk_u1 (h 1 _ rfl))).trans rfl))
theorem dk_189 {code : ByteArray} {pc : Nat} (a b : UInt8) (h : DkAt code pc [189, a, b]) : decode code pc = .ok (.anewarray (a.toNat * 256 + b.toNat), 3) := dk_of ((dk_bind (dk_u1 (h 0 _ rfl))).trans ((dk_bind (dk_u2 (h 1 _ rfl) (h 2 _ rfl))).trans rfl))
theorem dk_190 {code : ByteArray} {pc : Nat} (h : DkAt code pc [190]) : decode code pc = .ok (.arraylength, 1) := dk_of ((dk_bind (dk_u1 (h 0 _ rfl))).trans rfl)
theorem dk_191 {code : ByteArray} {pc : Nat} (h : DkAt code pc [191]) : decode code pc = .ok (.athrow, 1) := dk_of ((dk_bind (dk_u1 (h 0 _ rfl))).trans rfl)
theorem dk_198 {code : ByteArray} {pc : Nat} (a b : UInt8) (h : DkAt code pc [198, a, b]) : decode code pc = .ok (.ifnull (Reader.signed 16 (a.toNat * 256 + b.toNat)), 3) := dk_of ((dk_bind (dk_u1 (h 0 _ rfl))).trans ((dk_bind (dk_map (dk_u2 (h 1 _ rfl) (h 2 _ rfl)))).trans rfl))
theorem dk_199 {code : ByteArray} {pc : Nat} (a b : UInt8) (h : DkAt code pc [199, a, b]) : decode code pc = .ok (.ifnonnull (Reader.signed 16 (a.toNat * 256 + b.toNat)), 3) := dk_of ((dk_bind (dk_u1 (h 0 _ rfl))).trans ((dk_bind (dk_map (dk_u2 (h 1 _ rfl) (h 2 _ rfl)))).trans rfl))

def RX1 : String := "TollOnVowels"
def TX1 : u_T := fun k => match k with
  | 0 => ("TollOnVowels", "now", "LTollOnVowels$Road;", true)
  | 1 => ("TollOnVowels", "tried", "LTollOnVowels$Road;", true)
  | 2 => ("TollOnVowels", "letters", "[I", true)
  | 3 => ("TollOnVowels", "wordLong", "[I", true)
  | 4 => ("TollOnVowels", "meaning", "[I", true)
  | 5 => ("TollOnVowels", "second", "[I", true)
  | 6 => ("TollOnVowels", "whose", "[I", true)
  | 7 => ("TollOnVowels", "errandMeaning", "[I", true)
  | 8 => ("TollOnVowels", "where", "[I", true)
  | 9 => ("TollOnVowels", "worth", "[I", true)
  | 10 => ("TollOnVowels", "stations", "I", false)
  | 11 => ("TollOnVowels", "words", "I", false)
  | 12 => ("TollOnVowels", "travellers", "I", false)
  | 13 => ("TollOnVowels", "errands", "I", false)
  | 14 => ("TollOnVowels", "changes", "I", false)
  | 15 => ("TollOnVowels", "text", "[I", true)
  | 16 => ("TollOnVowels", "signMany", "I", false)
  | 17 => ("TollOnVowels", "at", "I", false)
  | 18 => ("TollOnVowels", "end", "I", false)
  | 19 => ("TollOnVowels", "nest", "I", false)
  | 20 => ("TollOnVowels", "readLetters", "[I", true)
  | 21 => ("TollOnVowels", "readLong", "[I", true)
  | 22 => ("TollOnVowels", "readMeaning", "[I", true)
  | 23 => ("TollOnVowels", "readSecond", "[I", true)
  | 24 => ("TollOnVowels", "readMany", "I", false)
  | 25 => ("TollOnVowels", "readAt", "[I", true)
  | 26 => ("TollOnVowels", "readPurse", "[I", true)
  | 27 => ("TollOnVowels", "readWhose", "[I", true)
  | 28 => ("TollOnVowels", "readWhat", "[I", true)
  | 29 => ("TollOnVowels", "readWhere", "[I", true)
  | 30 => ("TollOnVowels", "readWorth", "[I", true)
  | 31 => ("TollOnVowels", "askedVowel", "I", false)
  | 32 => ("TollOnVowels", "askedStation", "I", false)
  | 33 => ("TollOnVowels", "askedHour", "I", false)
  | 34 => ("TollOnVowels", "askedLong", "I", false)
  | 35 => ("TollOnVowels", "askedPlace", "I", false)
  | 36 => ("TollOnVowels", "askedAhead", "I", false)
  | 37 => ("TollOnVowels", "askedDouble", "I", false)
  | 38 => ("TollOnVowels", "rule", "LTollOnVowels$Node;", false)
  | 39 => ("TollOnVowels", "readRule", "LTollOnVowels$Node;", false)
  | 40 => ("TollOnVowels", "byVowel", "[I", true)
  | 41 => ("TollOnVowels", "undone", "[LTollOnVowels$Road;", true)
  | 42 => ("TollOnVowels", "wasAhead", "LTollOnVowels$Road;", true)
  | 43 => ("TollOnVowels", "undoMany", "I", false)
  | 44 => ("TollOnVowels", "doneBits", "I", false)
  | 45 => ("TollOnVowels", "actSign", "[I", true)
  | 46 => ("TollOnVowels", "actOne", "[I", true)
  | 47 => ("TollOnVowels", "acts", "I", false)
  | 48 => ("TollOnVowels", "journeyToll", "I", false)
  | 49 => ("TollOnVowels", "told", "[I", true)
  | 50 => ("TollOnVowels", "rest", "[I", true)
  | 51 => ("TollOnVowels", "toldLong", "I", false)
  | 52 => ("TollOnVowels", "rowOne", "[I", true)
  | 53 => ("TollOnVowels", "rowOther", "[I", true)
  | 54 => ("TollOnVowels", "edits", "[I", true)
  | 55 => ("TollOnVowels", "apart", "[I", true)
  | 56 => ("TollOnVowels", "least", "[I", true)
  | 57 => ("TollOnVowels", "saidMany", "I", false)
  | 58 => ("TollOnVowels", "left", "[I", true)
  | 59 => ("TollOnVowels", "saidBy", "[I", true)
  | 60 => ("TollOnVowels", "firstSaid", "[I", true)
  | 61 => ("TollOnVowels", "saidWays", "I", false)
  | 62 => ("TollOnVowels", "firstMany", "I", false)
  | 63 => ("TollOnVowels", "random", "I", false)
  | 64 => ("TollOnVowels", "kept", "[LTollOnVowels$Road;", true)
  | 65 => ("TollOnVowels", "keptChanges", "[I", true)
  | 66 => ("TollOnVowels", "row", "[J", true)
  | _ => ("TollOnVowels", "rowMany", "I", false)
def tyX1 : Nat → FieldType := fun k => match k with
  | 0 => .object "TollOnVowels$Road"
  | 1 => .object "TollOnVowels$Road"
  | 2 => .array .int
  | 3 => .array .int
  | 4 => .array .int
  | 5 => .array .int
  | 6 => .array .int
  | 7 => .array .int
  | 8 => .array .int
  | 9 => .array .int
  | 10 => .int
  | 11 => .int
  | 12 => .int
  | 13 => .int
  | 14 => .int
  | 15 => .array .int
  | 16 => .int
  | 17 => .int
  | 18 => .int
  | 19 => .int
  | 20 => .array .int
  | 21 => .array .int
  | 22 => .array .int
  | 23 => .array .int
  | 24 => .int
  | 25 => .array .int
  | 26 => .array .int
  | 27 => .array .int
  | 28 => .array .int
  | 29 => .array .int
  | 30 => .array .int
  | 31 => .int
  | 32 => .int
  | 33 => .int
  | 34 => .int
  | 35 => .int
  | 36 => .int
  | 37 => .int
  | 38 => .object "TollOnVowels$Node"
  | 39 => .object "TollOnVowels$Node"
  | 40 => .array .int
  | 41 => .array (.object "TollOnVowels$Road")
  | 42 => .object "TollOnVowels$Road"
  | 43 => .int
  | 44 => .int
  | 45 => .array .int
  | 46 => .array .int
  | 47 => .int
  | 48 => .int
  | 49 => .array .int
  | 50 => .array .int
  | 51 => .int
  | 52 => .array .int
  | 53 => .array .int
  | 54 => .array .int
  | 55 => .array .int
  | 56 => .array .int
  | 57 => .int
  | 58 => .array .int
  | 59 => .array .int
  | 60 => .array .int
  | 61 => .int
  | 62 => .int
  | 63 => .int
  | 64 => .array (.object "TollOnVowels$Road")
  | 65 => .array .int
  | 66 => .array .long
  | _ => .int
abbrev wsX10 : List Cond := u_ws RX1 TX1 68
set_option maxRecDepth 100000 in
theorem nmX1 : ∀ a, a < 68 → ∀ b, b < 68 → a ≠ b → (TX1 a).2.1 ≠ (TX1 b).2.1 := by decide +kernel
set_option maxRecDepth 100000 in
theorem tyX1_ok : ∀ k, k < 68 → parseFieldDescriptor (TX1 k).2.2.1 = some (tyX1 k) := by decide +kernel
abbrev cX1_init : ByteArray := prog_1_method_1_code
def yX1_init : MethodName := ⟨RX1, "<init>", "()V"⟩
abbrev cX1_sign : ByteArray := prog_1_method_12_code
def yX1_sign : MethodName := ⟨RX1, "sign", "(I)I"⟩
abbrev cX1_end : ByteArray := prog_1_method_13_code
def yX1_end : MethodName := ⟨RX1, "end", "(I)Z"⟩
abbrev cX1_in : ByteArray := prog_1_method_2_code
def yX1_in : MethodName := ⟨RX1, "in", "(JJJ)Z"⟩
abbrev cX1_words : ByteArray := prog_1_method_24_code
def yX1_words : MethodName := ⟨RX1, "words", "()I"⟩
abbrev cX1_begins : ByteArray := prog_1_method_14_code
def yX1_begins : MethodName := ⟨RX1, "begins", "(I)I"⟩
abbrev cX1_readsWord : ByteArray := prog_1_method_23_code
def yX1_readsWord : MethodName := ⟨RX1, "readsWord", "()Z"⟩
abbrev cX1_takesOf : ByteArray := prog_1_method_18_code
def yX1_takesOf : MethodName := ⟨RX1, "takesOf", "(Ljava/lang/String;)I"⟩
abbrev cX1_among : ByteArray := prog_1_method_17_code
def yX1_among : MethodName := ⟨RX1, "among", "(Ljava/lang/String;)I"⟩
abbrev cX1_eats : ByteArray := prog_1_method_16_code
def yX1_eats : MethodName := ⟨RX1, "eats", "(C)Z"⟩
abbrev cX1_isAt : ByteArray := prog_1_method_15_code
def yX1_isAt : MethodName := ⟨RX1, "isAt", "(C)Z"⟩
abbrev cX1_faultOf : ByteArray := prog_1_method_21_code
def yX1_faultOf : MethodName := ⟨RX1, "faultOf", "(IZ)I"⟩
abbrev cX1_isNew : ByteArray := prog_1_method_25_code
def yX1_isNew : MethodName := ⟨RX1, "isNew", "()V"⟩
abbrev cX1_travellers : ByteArray := prog_1_method_27_code
def yX1_travellers : MethodName := ⟨RX1, "travellers", "()I"⟩
abbrev cX1_readsTraveller : ByteArray := prog_1_method_26_code
def yX1_readsTraveller : MethodName := ⟨RX1, "readsTraveller", "()Z"⟩
abbrev cX1_readsStation : ByteArray := prog_1_method_22_code
def yX1_readsStation : MethodName := ⟨RX1, "readsStation", "()I"⟩
abbrev cX1_number : ByteArray := prog_1_method_20_code
def yX1_number : MethodName := ⟨RX1, "number", "(I)I"⟩
abbrev cX1_isDigit : ByteArray := prog_1_method_19_code
def yX1_isDigit : MethodName := ⟨RX1, "isDigit", "()Z"⟩
abbrev cX1_errands : ByteArray := prog_1_method_29_code
def yX1_errands : MethodName := ⟨RX1, "errands", "()I"⟩
abbrev cX1_readsErrand : ByteArray := prog_1_method_28_code
def yX1_readsErrand : MethodName := ⟨RX1, "readsErrand", "()Z"⟩
abbrev cX1_road : ByteArray := prog_1_method_30_code
def yX1_road : MethodName := ⟨RX1, "road", "(I)I"⟩
abbrev cX1_rule : ByteArray := prog_1_method_35_code
def yX1_rule : MethodName := ⟨RX1, "rule", "()I"⟩
abbrev cX1_readsRule : ByteArray := prog_1_method_34_code
def yX1_readsRule : MethodName := ⟨RX1, "readsRule", "()I"⟩
abbrev cX1_reads : ByteArray := prog_1_method_33_code
def yX1_reads : MethodName := ⟨RX1, "reads", "(I)LTollOnVowels$Node;"⟩
abbrev cX1_readsThing : ByteArray := prog_1_method_31_code
def yX1_readsThing : MethodName := ⟨RX1, "readsThing", "()LTollOnVowels$Node;"⟩
abbrev cX1_acts : ByteArray := prog_1_method_32_code
def yX1_acts : MethodName := ⟨RX1, "acts", "(I)Ljava/lang/String;"⟩
abbrev cX1_sheet : ByteArray := prog_1_method_42_code
def yX1_sheet : MethodName := ⟨RX1, "sheet", "(IIII)I"⟩
abbrev cX1_undo : ByteArray := prog_1_method_44_code
def yX1_undo : MethodName := ⟨RX1, "undo", "()I"⟩
abbrev cX1_toll : ByteArray := prog_1_method_46_code
def yX1_toll : MethodName := ⟨RX1, "toll", "(II)I"⟩
abbrev cX1_isWord : ByteArray := prog_1_method_6_code
def yX1_isWord : MethodName := ⟨RX1, "isWord", "(I)Z"⟩
abbrev cX1_isStation : ByteArray := prog_1_method_5_code
def yX1_isStation : MethodName := ⟨RX1, "isStation", "(I)Z"⟩
abbrev cX1_tollOf : ByteArray := prog_1_method_36_code
def yX1_tollOf : MethodName := ⟨RX1, "tollOf", "(III)I"⟩
abbrev cX1_vowelAt : ByteArray := prog_1_method_9_code
def yX1_vowelAt : MethodName := ⟨RX1, "vowelAt", "(II)I"⟩
abbrev cX1_tells : ByteArray := prog_1_method_104_code
def yX1_tells : MethodName := ⟨RX1, "tells", "(J)V"⟩
abbrev cX1_walk : ByteArray := prog_1_method_51_code
def yX1_walk : MethodName := ⟨RX1, "walk", "(II)I"⟩
abbrev cX1_walks : ByteArray := prog_1_method_47_code
def yX1_walks : MethodName := ⟨RX1, "walks", "(LTollOnVowels$Road;II)I"⟩
abbrev cX1_isTraveller : ByteArray := prog_1_method_7_code
def yX1_isTraveller : MethodName := ⟨RX1, "isTraveller", "(I)Z"⟩
abbrev cX1_counts : ByteArray := prog_1_method_45_code
def yX1_counts : MethodName := ⟨RX1, "counts", "(I)I"⟩
abbrev cX1_putsBy : ByteArray := prog_1_method_43_code
def yX1_putsBy : MethodName := ⟨RX1, "putsBy", "(LTollOnVowels$Road;)V"⟩
abbrev cX1_pause : ByteArray := prog_1_method_52_code
def yX1_pause : MethodName := ⟨RX1, "pause", "(I)I"⟩
abbrev cX1_say : ByteArray := prog_1_method_53_code
def yX1_say : MethodName := ⟨RX1, "say", "(II)I"⟩
abbrev cX1_says : ByteArray := prog_1_method_49_code
def yX1_says : MethodName := ⟨RX1, "says", "(LTollOnVowels$Road;II)I"⟩
abbrev cX1_doesBy : ByteArray := prog_1_method_48_code
def yX1_doesBy : MethodName := ⟨RX1, "doesBy", "(IIII)I"⟩
abbrev cX1_has : ByteArray := prog_1_method_3_code
def yX1_has : MethodName := ⟨RX1, "has", "(II)Z"⟩
abbrev cX1_means : ByteArray := prog_1_method_8_code
def yX1_means : MethodName := ⟨RX1, "means", "(II)Z"⟩
abbrev cX1_alms : ByteArray := prog_1_method_54_code
def yX1_alms : MethodName := ⟨RX1, "alms", "(III)I"⟩
abbrev cX1_givesAlms : ByteArray := prog_1_method_50_code
def yX1_givesAlms : MethodName := ⟨RX1, "givesAlms", "(III)I"⟩
abbrev cX1_journey : ByteArray := prog_1_method_59_code
def yX1_journey : MethodName := ⟨RX1, "journey", "()I"⟩
abbrev cX1_readsAct : ByteArray := prog_1_method_55_code
def yX1_readsAct : MethodName := ⟨RX1, "readsAct", "()Z"⟩
abbrev cX1_does : ByteArray := prog_1_method_58_code
def yX1_does : MethodName := ⟨RX1, "does", "(I)Z"⟩
abbrev cX1_wordFor : ByteArray := prog_1_method_57_code
def yX1_wordFor : MethodName := ⟨RX1, "wordFor", "(I)I"⟩
abbrev cX1_errandsOf : ByteArray := prog_1_method_37_code
def yX1_errandsOf : MethodName := ⟨RX1, "errandsOf", "(I)I"⟩
abbrev cX1_cheapestFor : ByteArray := prog_1_method_61_code
def yX1_cheapestFor : MethodName := ⟨RX1, "cheapestFor", "(III)I"⟩
abbrev cX1_tollNow : ByteArray := prog_1_method_60_code
def yX1_tollNow : MethodName := ⟨RX1, "tollNow", "(II)I"⟩
abbrev cX1_vowelsOf : ByteArray := prog_1_method_10_code
def yX1_vowelsOf : MethodName := ⟨RX1, "vowelsOf", "(I)I"⟩
abbrev cX1_paid : ByteArray := prog_1_method_56_code
def yX1_paid : MethodName := ⟨RX1, "paid", "(I)Z"⟩
abbrev cX1_cheapest : ByteArray := prog_1_method_62_code
def yX1_cheapest : MethodName := ⟨RX1, "cheapest", "(II)I"⟩
abbrev cX1_sentence : ByteArray := prog_1_method_65_code
def yX1_sentence : MethodName := ⟨RX1, "sentence", "(I)I"⟩
abbrev cX1_costFrom : ByteArray := prog_1_method_64_code
def yX1_costFrom : MethodName := ⟨RX1, "costFrom", "(III)I"⟩
abbrev cX1_tellsFrom : ByteArray := prog_1_method_63_code
def yX1_tellsFrom : MethodName := ⟨RX1, "tellsFrom", "(II)I"⟩
abbrev cX1_when : ByteArray := prog_1_method_66_code
def yX1_when : MethodName := ⟨RX1, "when", "(II)I"⟩
abbrev cX1_shortest : ByteArray := prog_1_method_67_code
def yX1_shortest : MethodName := ⟨RX1, "shortest", "(III)I"⟩
abbrev cX1_differ : ByteArray := prog_1_method_70_code
def yX1_differ : MethodName := ⟨RX1, "differ", "(II)I"⟩
abbrev cX1_changesOf : ByteArray := prog_1_method_69_code
def yX1_changesOf : MethodName := ⟨RX1, "changesOf", "(IIZ)I"⟩
abbrev cX1_laysRow : ByteArray := prog_1_method_68_code
def yX1_laysRow : MethodName := ⟨RX1, "laysRow", "(I[IZ)I"⟩
abbrev cX1_near : ByteArray := prog_1_method_71_code
def yX1_near : MethodName := ⟨RX1, "near", "(I)I"⟩
abbrev cX1_heard : ByteArray := prog_1_method_72_code
def yX1_heard : MethodName := ⟨RX1, "heard", "(III)I"⟩
abbrev cX1_common : ByteArray := prog_1_method_4_code
def yX1_common : MethodName := ⟨RX1, "common", "(JJ)J"⟩
abbrev cX1_code : ByteArray := prog_1_method_75_code
def yX1_code : MethodName := ⟨RX1, "code", "(I)I"⟩
abbrev cX1_areApart : ByteArray := prog_1_method_73_code
def yX1_areApart : MethodName := ⟨RX1, "areApart", "(II)Z"⟩
abbrev cX1_tollOfAll : ByteArray := prog_1_method_74_code
def yX1_tollOfAll : MethodName := ⟨RX1, "tollOfAll", "(I)I"⟩
abbrev cX1_trip : ByteArray := prog_1_method_82_code
def yX1_trip : MethodName := ⟨RX1, "trip", "(II)I"⟩
abbrev cX1_laysTrip : ByteArray := prog_1_method_80_code
def yX1_laysTrip : MethodName := ⟨RX1, "laysTrip", "(II)V"⟩
abbrev cX1_spot : ByteArray := prog_1_method_76_code
def yX1_spot : MethodName := ⟨RX1, "spot", "(III)I"⟩
abbrev cX1_laysSayings : ByteArray := prog_1_method_78_code
def yX1_laysSayings : MethodName := ⟨RX1, "laysSayings", "(III)V"⟩
abbrev cX1_lessens : ByteArray := prog_1_method_77_code
def yX1_lessens : MethodName := ⟨RX1, "lessens", "(II)V"⟩
abbrev cX1_goesOn : ByteArray := prog_1_method_79_code
def yX1_goesOn : MethodName := ⟨RX1, "goesOn", "(II)V"⟩
abbrev cX1_doneIn : ByteArray := prog_1_method_81_code
def yX1_doneIn : MethodName := ⟨RX1, "doneIn", "(II)I"⟩
abbrev cX1_haste : ByteArray := prog_1_method_83_code
def yX1_haste : MethodName := ⟨RX1, "haste", "(I)I"⟩
abbrev cX1_best : ByteArray := prog_1_method_86_code
def yX1_best : MethodName := ⟨RX1, "best", "(I)I"⟩
abbrev cX1_costOf : ByteArray := prog_1_method_84_code
def yX1_costOf : MethodName := ⟨RX1, "costOf", "(II)I"⟩
abbrev cX1_worthOf : ByteArray := prog_1_method_85_code
def yX1_worthOf : MethodName := ⟨RX1, "worthOf", "(I)I"⟩
abbrev cX1_takes : ByteArray := prog_1_method_88_code
def yX1_takes : MethodName := ⟨RX1, "takes", "(II)I"⟩
abbrev cX1_comesIn : ByteArray := prog_1_method_87_code
def yX1_comesIn : MethodName := ⟨RX1, "comesIn", "(II)I"⟩
abbrev cX1_greed : ByteArray := prog_1_method_89_code
def yX1_greed : MethodName := ⟨RX1, "greed", "(I)I"⟩
abbrev cX1_law : ByteArray := prog_1_method_90_code
def yX1_law : MethodName := ⟨RX1, "law", "(I)I"⟩
abbrev cX1_said : ByteArray := prog_1_method_94_code
def yX1_said : MethodName := ⟨RX1, "said", "()I"⟩
abbrev cX1_saysFrom : ByteArray := prog_1_method_93_code
def yX1_saysFrom : MethodName := ⟨RX1, "saysFrom", "(III)V"⟩
abbrev cX1_isNothingLeft : ByteArray := prog_1_method_92_code
def yX1_isNothingLeft : MethodName := ⟨RX1, "isNothingLeft", "()Z"⟩
abbrev cX1_changesLeft : ByteArray := prog_1_method_91_code
def yX1_changesLeft : MethodName := ⟨RX1, "changesLeft", "(II)Z"⟩
abbrev cX1_vowelIn : ByteArray := prog_1_method_11_code
def yX1_vowelIn : MethodName := ⟨RX1, "vowelIn", "(II)I"⟩
abbrev cX1_ask : ByteArray := prog_1_method_96_code
def yX1_ask : MethodName := ⟨RX1, "ask", "()I"⟩
abbrev cX1_leftBy : ByteArray := prog_1_method_95_code
def yX1_leftBy : MethodName := ⟨RX1, "leftBy", "(I)I"⟩
abbrev cX1_years : ByteArray := prog_1_method_98_code
def yX1_years : MethodName := ⟨RX1, "years", "(II)I"⟩
abbrev cX1_draws : ByteArray := prog_1_method_97_code
def yX1_draws : MethodName := ⟨RX1, "draws", "(I)I"⟩
abbrev cX1_keep : ByteArray := prog_1_method_99_code
def yX1_keep : MethodName := ⟨RX1, "keep", "(I)Z"⟩
abbrev cX1_again : ByteArray := prog_1_method_100_code
def yX1_again : MethodName := ⟨RX1, "again", "(I)Z"⟩
abbrev cX1_count : ByteArray := prog_1_method_103_code
def yX1_count : MethodName := ⟨RX1, "count", "(I)I"⟩
abbrev cX1_purses : ByteArray := prog_1_method_101_code
def yX1_purses : MethodName := ⟨RX1, "purses", "()I"⟩
abbrev cX1_compounds : ByteArray := prog_1_method_102_code
def yX1_compounds : MethodName := ⟨RX1, "compounds", "()I"⟩
abbrev cX1_word : ByteArray := prog_1_method_38_code
def yX1_word : MethodName := ⟨RX1, "word", "(II)I"⟩
abbrev cX1_traveller : ByteArray := prog_1_method_39_code
def yX1_traveller : MethodName := ⟨RX1, "traveller", "(II)I"⟩
abbrev cX1_errand : ByteArray := prog_1_method_40_code
def yX1_errand : MethodName := ⟨RX1, "errand", "(II)I"⟩
abbrev cX1_book : ByteArray := prog_1_method_41_code
def yX1_book : MethodName := ⟨RX1, "book", "(II)I"⟩
abbrev cX1_row : ByteArray := prog_1_method_105_code
def yX1_row : MethodName := ⟨RX1, "row", "(I)J"⟩
theorem q116 : (Jvm.Cond.initialized "TollOnVowels") ∈ lw_all := lw_g (lw_at lw_m1 1 rfl) rfl
theorem q137 : (Jvm.Cond.instantiable "TollOnVowels" (68 : Nat)) ∈ lw_all := lw_g (lw_at lw_m1 22 rfl) rfl
theorem q139 : (Jvm.Cond.instanceMethod ({ cls := "TollOnVowels", name := "<init>", desc := "()V" } : Jvm.MethodName)) ∈ lw_all := lw_g (lw_at lw_m1 24 rfl) rfl
theorem q140 : (Jvm.Cond.code ({ cls := "TollOnVowels", name := "<init>", desc := "()V" } : Jvm.MethodName) prog_1_method_1_code (1 : Nat) (Option.none : Option Jvm.ClassFile.FieldType)) ∈ lw_all := lw_g (lw_at lw_m1 25 rfl) rfl
theorem q141 : (Jvm.Cond.methodLink "TollOnVowels" (3 : Nat) ({ cls := "java/lang/Object", name := "<init>", desc := "()V" } : Jvm.MethodName)) ∈ lw_all := lw_g (lw_at lw_m1 26 rfl) rfl
theorem q144 : (Jvm.Cond.classLink "TollOnVowels" (9 : Nat) "TollOnVowels$Road") ∈ lw_all := lw_g (lw_at lw_m1 29 rfl) rfl
theorem q146 : (Jvm.Cond.methodLinkNest "TollOnVowels" (11 : Nat) ({ cls := "TollOnVowels$Road", name := "<init>", desc := "()V" } : Jvm.MethodName) "TollOnVowels") ∈ lw_tbl := lw_at lw_m1 31 rfl
theorem q151 : (Jvm.Cond.fieldLinkNest "TollOnVowels" (244 : Nat) "TollOnVowels$Road" "at" "[I" "TollOnVowels") ∈ lw_tbl := lw_at lw_m1 36 rfl
theorem q153 : (Jvm.Cond.fieldLinkNest "TollOnVowels" (246 : Nat) "TollOnVowels$Road" "purse" "[I" "TollOnVowels") ∈ lw_tbl := lw_at lw_m1 38 rfl
theorem q155 : (Jvm.Cond.fieldLinkNest "TollOnVowels" (249 : Nat) "TollOnVowels$Road" "spent" "[I" "TollOnVowels") ∈ lw_tbl := lw_at lw_m1 40 rfl
theorem q157 : (Jvm.Cond.fieldLinkNest "TollOnVowels" (263 : Nat) "TollOnVowels$Road" "book" "[I" "TollOnVowels") ∈ lw_tbl := lw_at lw_m1 42 rfl
theorem q159 : (Jvm.Cond.fieldLinkNest "TollOnVowels" (382 : Nat) "TollOnVowels$Road" "hour" "I" "TollOnVowels") ∈ lw_tbl := lw_at lw_m1 44 rfl
theorem q161 : (Jvm.Cond.fieldLinkNest "TollOnVowels" (340 : Nat) "TollOnVowels$Road" "done" "I" "TollOnVowels") ∈ lw_tbl := lw_at lw_m1 46 rfl
theorem q177 : (Jvm.Cond.fieldLink "TollOnVowels" (12 : Nat) "TollOnVowels" "now" "LTollOnVowels$Road;") ∈ lw_all := lw_g (lw_at lw_m1 62 rfl) rfl
theorem q178 : (Jvm.Cond.fieldLink "TollOnVowels" (16 : Nat) "TollOnVowels" "tried" "LTollOnVowels$Road;") ∈ lw_all := lw_g (lw_at lw_m1 63 rfl) rfl
theorem q179 : (Jvm.Cond.fieldLink "TollOnVowels" (19 : Nat) "TollOnVowels" "letters" "[I") ∈ lw_all := lw_g (lw_at lw_m1 64 rfl) rfl
theorem q180 : (Jvm.Cond.fieldLink "TollOnVowels" (23 : Nat) "TollOnVowels" "wordLong" "[I") ∈ lw_all := lw_g (lw_at lw_m1 65 rfl) rfl
theorem q181 : (Jvm.Cond.fieldLink "TollOnVowels" (26 : Nat) "TollOnVowels" "meaning" "[I") ∈ lw_all := lw_g (lw_at lw_m1 66 rfl) rfl
theorem q182 : (Jvm.Cond.fieldLink "TollOnVowels" (29 : Nat) "TollOnVowels" "second" "[I") ∈ lw_all := lw_g (lw_at lw_m1 67 rfl) rfl
theorem q183 : (Jvm.Cond.fieldLink "TollOnVowels" (32 : Nat) "TollOnVowels" "whose" "[I") ∈ lw_all := lw_g (lw_at lw_m1 68 rfl) rfl
theorem q184 : (Jvm.Cond.fieldLink "TollOnVowels" (35 : Nat) "TollOnVowels" "errandMeaning" "[I") ∈ lw_all := lw_g (lw_at lw_m1 69 rfl) rfl
theorem q185 : (Jvm.Cond.fieldLink "TollOnVowels" (38 : Nat) "TollOnVowels" "where" "[I") ∈ lw_all := lw_g (lw_at lw_m1 70 rfl) rfl
theorem q186 : (Jvm.Cond.fieldLink "TollOnVowels" (41 : Nat) "TollOnVowels" "worth" "[I") ∈ lw_all := lw_g (lw_at lw_m1 71 rfl) rfl
theorem q187 : (Jvm.Cond.fieldLink "TollOnVowels" (44 : Nat) "TollOnVowels" "stations" "I") ∈ lw_all := lw_g (lw_at lw_m1 72 rfl) rfl
theorem q188 : (Jvm.Cond.fieldLink "TollOnVowels" (145 : Nat) "TollOnVowels" "words" "I") ∈ lw_all := lw_g (lw_at lw_m1 73 rfl) rfl
theorem q189 : (Jvm.Cond.fieldLink "TollOnVowels" (148 : Nat) "TollOnVowels" "travellers" "I") ∈ lw_all := lw_g (lw_at lw_m1 74 rfl) rfl
theorem q190 : (Jvm.Cond.fieldLink "TollOnVowels" (252 : Nat) "TollOnVowels" "errands" "I") ∈ lw_all := lw_g (lw_at lw_m1 75 rfl) rfl
theorem q191 : (Jvm.Cond.fieldLink "TollOnVowels" (231 : Nat) "TollOnVowels" "changes" "I") ∈ lw_all := lw_g (lw_at lw_m1 76 rfl) rfl
theorem q192 : (Jvm.Cond.fieldLink "TollOnVowels" (48 : Nat) "TollOnVowels" "text" "[I") ∈ lw_all := lw_g (lw_at lw_m1 77 rfl) rfl
theorem q193 : (Jvm.Cond.fieldLink "TollOnVowels" (163 : Nat) "TollOnVowels" "signMany" "I") ∈ lw_all := lw_g (lw_at lw_m1 78 rfl) rfl
theorem q194 : (Jvm.Cond.fieldLink "TollOnVowels" (166 : Nat) "TollOnVowels" "at" "I") ∈ lw_all := lw_g (lw_at lw_m1 79 rfl) rfl
theorem q195 : (Jvm.Cond.fieldLink "TollOnVowels" (177 : Nat) "TollOnVowels" "end" "I") ∈ lw_all := lw_g (lw_at lw_m1 80 rfl) rfl
theorem q196 : (Jvm.Cond.fieldLink "TollOnVowels" (169 : Nat) "TollOnVowels" "nest" "I") ∈ lw_all := lw_g (lw_at lw_m1 81 rfl) rfl
theorem q197 : (Jvm.Cond.fieldLink "TollOnVowels" (51 : Nat) "TollOnVowels" "readLetters" "[I") ∈ lw_all := lw_g (lw_at lw_m1 82 rfl) rfl
theorem q198 : (Jvm.Cond.fieldLink "TollOnVowels" (54 : Nat) "TollOnVowels" "readLong" "[I") ∈ lw_all := lw_g (lw_at lw_m1 83 rfl) rfl
theorem q199 : (Jvm.Cond.fieldLink "TollOnVowels" (57 : Nat) "TollOnVowels" "readMeaning" "[I") ∈ lw_all := lw_g (lw_at lw_m1 84 rfl) rfl
theorem q200 : (Jvm.Cond.fieldLink "TollOnVowels" (60 : Nat) "TollOnVowels" "readSecond" "[I") ∈ lw_all := lw_g (lw_at lw_m1 85 rfl) rfl
theorem q201 : (Jvm.Cond.fieldLink "TollOnVowels" (201 : Nat) "TollOnVowels" "readMany" "I") ∈ lw_all := lw_g (lw_at lw_m1 86 rfl) rfl
theorem q202 : (Jvm.Cond.fieldLink "TollOnVowels" (63 : Nat) "TollOnVowels" "readAt" "[I") ∈ lw_all := lw_g (lw_at lw_m1 87 rfl) rfl
theorem q203 : (Jvm.Cond.fieldLink "TollOnVowels" (66 : Nat) "TollOnVowels" "readPurse" "[I") ∈ lw_all := lw_g (lw_at lw_m1 88 rfl) rfl
theorem q204 : (Jvm.Cond.fieldLink "TollOnVowels" (69 : Nat) "TollOnVowels" "readWhose" "[I") ∈ lw_all := lw_g (lw_at lw_m1 89 rfl) rfl
theorem q205 : (Jvm.Cond.fieldLink "TollOnVowels" (72 : Nat) "TollOnVowels" "readWhat" "[I") ∈ lw_all := lw_g (lw_at lw_m1 90 rfl) rfl
theorem q206 : (Jvm.Cond.fieldLink "TollOnVowels" (75 : Nat) "TollOnVowels" "readWhere" "[I") ∈ lw_all := lw_g (lw_at lw_m1 91 rfl) rfl
theorem q207 : (Jvm.Cond.fieldLink "TollOnVowels" (78 : Nat) "TollOnVowels" "readWorth" "[I") ∈ lw_all := lw_g (lw_at lw_m1 92 rfl) rfl
theorem q209 : (Jvm.Cond.fieldLink "TollOnVowels" (326 : Nat) "TollOnVowels" "askedVowel" "I") ∈ lw_all := lw_g (lw_at lw_m1 94 rfl) rfl
theorem q211 : (Jvm.Cond.fieldLink "TollOnVowels" (314 : Nat) "TollOnVowels" "askedStation" "I") ∈ lw_all := lw_g (lw_at lw_m1 96 rfl) rfl
theorem q213 : (Jvm.Cond.fieldLink "TollOnVowels" (317 : Nat) "TollOnVowels" "askedHour" "I") ∈ lw_all := lw_g (lw_at lw_m1 98 rfl) rfl
theorem q215 : (Jvm.Cond.fieldLink "TollOnVowels" (320 : Nat) "TollOnVowels" "askedLong" "I") ∈ lw_all := lw_g (lw_at lw_m1 100 rfl) rfl
theorem q217 : (Jvm.Cond.fieldLink "TollOnVowels" (329 : Nat) "TollOnVowels" "askedPlace" "I") ∈ lw_all := lw_g (lw_at lw_m1 102 rfl) rfl
theorem q219 : (Jvm.Cond.fieldLink "TollOnVowels" (323 : Nat) "TollOnVowels" "askedAhead" "I") ∈ lw_all := lw_g (lw_at lw_m1 104 rfl) rfl
theorem q221 : (Jvm.Cond.fieldLink "TollOnVowels" (332 : Nat) "TollOnVowels" "askedDouble" "I") ∈ lw_all := lw_g (lw_at lw_m1 106 rfl) rfl
theorem q222 : (Jvm.Cond.fieldLink "TollOnVowels" (311 : Nat) "TollOnVowels" "rule" "LTollOnVowels$Node;") ∈ lw_all := lw_g (lw_at lw_m1 107 rfl) rfl
theorem q223 : (Jvm.Cond.fieldLink "TollOnVowels" (304 : Nat) "TollOnVowels" "readRule" "LTollOnVowels$Node;") ∈ lw_all := lw_g (lw_at lw_m1 108 rfl) rfl
theorem q224 : (Jvm.Cond.fieldLink "TollOnVowels" (81 : Nat) "TollOnVowels" "byVowel" "[I") ∈ lw_all := lw_g (lw_at lw_m1 109 rfl) rfl
theorem q225 : (Jvm.Cond.fieldLink "TollOnVowels" (84 : Nat) "TollOnVowels" "undone" "[LTollOnVowels$Road;") ∈ lw_all := lw_g (lw_at lw_m1 110 rfl) rfl
theorem q226 : (Jvm.Cond.fieldLink "TollOnVowels" (88 : Nat) "TollOnVowels" "wasAhead" "LTollOnVowels$Road;") ∈ lw_all := lw_g (lw_at lw_m1 111 rfl) rfl
theorem q227 : (Jvm.Cond.fieldLink "TollOnVowels" (228 : Nat) "TollOnVowels" "undoMany" "I") ∈ lw_all := lw_g (lw_at lw_m1 112 rfl) rfl
theorem q228 : (Jvm.Cond.fieldLink "TollOnVowels" (410 : Nat) "TollOnVowels" "doneBits" "I") ∈ lw_all := lw_g (lw_at lw_m1 113 rfl) rfl
theorem q229 : (Jvm.Cond.fieldLink "TollOnVowels" (91 : Nat) "TollOnVowels" "actSign" "[I") ∈ lw_all := lw_g (lw_at lw_m1 114 rfl) rfl
theorem q230 : (Jvm.Cond.fieldLink "TollOnVowels" (94 : Nat) "TollOnVowels" "actOne" "[I") ∈ lw_all := lw_g (lw_at lw_m1 115 rfl) rfl
theorem q231 : (Jvm.Cond.fieldLink "TollOnVowels" (430 : Nat) "TollOnVowels" "acts" "I") ∈ lw_all := lw_g (lw_at lw_m1 116 rfl) rfl
theorem q232 : (Jvm.Cond.fieldLink "TollOnVowels" (436 : Nat) "TollOnVowels" "journeyToll" "I") ∈ lw_all := lw_g (lw_at lw_m1 117 rfl) rfl
theorem q233 : (Jvm.Cond.fieldLink "TollOnVowels" (97 : Nat) "TollOnVowels" "told" "[I") ∈ lw_all := lw_g (lw_at lw_m1 118 rfl) rfl
theorem q234 : (Jvm.Cond.fieldLink "TollOnVowels" (100 : Nat) "TollOnVowels" "rest" "[I") ∈ lw_all := lw_g (lw_at lw_m1 119 rfl) rfl
theorem q235 : (Jvm.Cond.fieldLink "TollOnVowels" (460 : Nat) "TollOnVowels" "toldLong" "I") ∈ lw_all := lw_g (lw_at lw_m1 120 rfl) rfl
theorem q236 : (Jvm.Cond.fieldLink "TollOnVowels" (103 : Nat) "TollOnVowels" "rowOne" "[I") ∈ lw_all := lw_g (lw_at lw_m1 121 rfl) rfl
theorem q237 : (Jvm.Cond.fieldLink "TollOnVowels" (106 : Nat) "TollOnVowels" "rowOther" "[I") ∈ lw_all := lw_g (lw_at lw_m1 122 rfl) rfl
theorem q238 : (Jvm.Cond.fieldLink "TollOnVowels" (109 : Nat) "TollOnVowels" "edits" "[I") ∈ lw_all := lw_g (lw_at lw_m1 123 rfl) rfl
theorem q239 : (Jvm.Cond.fieldLink "TollOnVowels" (112 : Nat) "TollOnVowels" "apart" "[I") ∈ lw_all := lw_g (lw_at lw_m1 124 rfl) rfl
theorem q240 : (Jvm.Cond.fieldLink "TollOnVowels" (115 : Nat) "TollOnVowels" "least" "[I") ∈ lw_all := lw_g (lw_at lw_m1 125 rfl) rfl
theorem q241 : (Jvm.Cond.fieldLink "TollOnVowels" (519 : Nat) "TollOnVowels" "saidMany" "I") ∈ lw_all := lw_g (lw_at lw_m1 126 rfl) rfl
theorem q242 : (Jvm.Cond.fieldLink "TollOnVowels" (118 : Nat) "TollOnVowels" "left" "[I") ∈ lw_all := lw_g (lw_at lw_m1 127 rfl) rfl
theorem q243 : (Jvm.Cond.fieldLink "TollOnVowels" (121 : Nat) "TollOnVowels" "saidBy" "[I") ∈ lw_all := lw_g (lw_at lw_m1 128 rfl) rfl
theorem q244 : (Jvm.Cond.fieldLink "TollOnVowels" (124 : Nat) "TollOnVowels" "firstSaid" "[I") ∈ lw_all := lw_g (lw_at lw_m1 129 rfl) rfl
theorem q245 : (Jvm.Cond.fieldLink "TollOnVowels" (528 : Nat) "TollOnVowels" "saidWays" "I") ∈ lw_all := lw_g (lw_at lw_m1 130 rfl) rfl
theorem q246 : (Jvm.Cond.fieldLink "TollOnVowels" (531 : Nat) "TollOnVowels" "firstMany" "I") ∈ lw_all := lw_g (lw_at lw_m1 131 rfl) rfl
theorem q247 : (Jvm.Cond.fieldLink "TollOnVowels" (543 : Nat) "TollOnVowels" "random" "I") ∈ lw_all := lw_g (lw_at lw_m1 132 rfl) rfl
theorem q248 : (Jvm.Cond.fieldLink "TollOnVowels" (127 : Nat) "TollOnVowels" "kept" "[LTollOnVowels$Road;") ∈ lw_all := lw_g (lw_at lw_m1 133 rfl) rfl
theorem q249 : (Jvm.Cond.fieldLink "TollOnVowels" (130 : Nat) "TollOnVowels" "keptChanges" "[I") ∈ lw_all := lw_g (lw_at lw_m1 134 rfl) rfl
theorem q250 : (Jvm.Cond.fieldLink "TollOnVowels" (133 : Nat) "TollOnVowels" "row" "[J") ∈ lw_all := lw_g (lw_at lw_m1 135 rfl) rfl
theorem q251 : (Jvm.Cond.fieldLink "TollOnVowels" (389 : Nat) "TollOnVowels" "rowMany" "I") ∈ lw_all := lw_g (lw_at lw_m1 136 rfl) rfl
theorem q252 : (Jvm.Cond.laysFinal "TollOnVowels" "TollOnVowels" "now" "LTollOnVowels$Road;") ∈ lw_all := lw_g (lw_at lw_m1 137 rfl) rfl
theorem q253 : (Jvm.Cond.soleField "TollOnVowels" "now") ∈ lw_all := lw_g (lw_at lw_m1 138 rfl) rfl
theorem q254 : (Jvm.Cond.laysFinal "TollOnVowels" "TollOnVowels" "tried" "LTollOnVowels$Road;") ∈ lw_all := lw_g (lw_at lw_m1 139 rfl) rfl
theorem q255 : (Jvm.Cond.soleField "TollOnVowels" "tried") ∈ lw_all := lw_g (lw_at lw_m1 140 rfl) rfl
theorem q256 : (Jvm.Cond.laysFinal "TollOnVowels" "TollOnVowels" "letters" "[I") ∈ lw_all := lw_g (lw_at lw_m1 141 rfl) rfl
theorem q257 : (Jvm.Cond.soleField "TollOnVowels" "letters") ∈ lw_all := lw_g (lw_at lw_m1 142 rfl) rfl
theorem q258 : (Jvm.Cond.laysFinal "TollOnVowels" "TollOnVowels" "wordLong" "[I") ∈ lw_all := lw_g (lw_at lw_m1 143 rfl) rfl
theorem q259 : (Jvm.Cond.soleField "TollOnVowels" "wordLong") ∈ lw_all := lw_g (lw_at lw_m1 144 rfl) rfl
theorem q260 : (Jvm.Cond.laysFinal "TollOnVowels" "TollOnVowels" "meaning" "[I") ∈ lw_all := lw_g (lw_at lw_m1 145 rfl) rfl
theorem q261 : (Jvm.Cond.soleField "TollOnVowels" "meaning") ∈ lw_all := lw_g (lw_at lw_m1 146 rfl) rfl
theorem q262 : (Jvm.Cond.laysFinal "TollOnVowels" "TollOnVowels" "second" "[I") ∈ lw_all := lw_g (lw_at lw_m1 147 rfl) rfl
theorem q263 : (Jvm.Cond.soleField "TollOnVowels" "second") ∈ lw_all := lw_g (lw_at lw_m1 148 rfl) rfl
theorem q264 : (Jvm.Cond.laysFinal "TollOnVowels" "TollOnVowels" "whose" "[I") ∈ lw_all := lw_g (lw_at lw_m1 149 rfl) rfl
theorem q265 : (Jvm.Cond.soleField "TollOnVowels" "whose") ∈ lw_all := lw_g (lw_at lw_m1 150 rfl) rfl
theorem q266 : (Jvm.Cond.laysFinal "TollOnVowels" "TollOnVowels" "errandMeaning" "[I") ∈ lw_all := lw_g (lw_at lw_m1 151 rfl) rfl
theorem q267 : (Jvm.Cond.soleField "TollOnVowels" "errandMeaning") ∈ lw_all := lw_g (lw_at lw_m1 152 rfl) rfl
theorem q268 : (Jvm.Cond.laysFinal "TollOnVowels" "TollOnVowels" "where" "[I") ∈ lw_all := lw_g (lw_at lw_m1 153 rfl) rfl
theorem q269 : (Jvm.Cond.soleField "TollOnVowels" "where") ∈ lw_all := lw_g (lw_at lw_m1 154 rfl) rfl
theorem q270 : (Jvm.Cond.laysFinal "TollOnVowels" "TollOnVowels" "worth" "[I") ∈ lw_all := lw_g (lw_at lw_m1 155 rfl) rfl
theorem q271 : (Jvm.Cond.soleField "TollOnVowels" "worth") ∈ lw_all := lw_g (lw_at lw_m1 156 rfl) rfl
theorem q272 : (Jvm.Cond.lays "TollOnVowels" "TollOnVowels" "stations" "I") ∈ lw_all := lw_g (lw_at lw_m1 157 rfl) rfl
theorem q273 : (Jvm.Cond.soleField "TollOnVowels" "stations") ∈ lw_all := lw_g (lw_at lw_m1 158 rfl) rfl
theorem q274 : (Jvm.Cond.lays "TollOnVowels" "TollOnVowels" "words" "I") ∈ lw_all := lw_g (lw_at lw_m1 159 rfl) rfl
theorem q275 : (Jvm.Cond.soleField "TollOnVowels" "words") ∈ lw_all := lw_g (lw_at lw_m1 160 rfl) rfl
theorem q276 : (Jvm.Cond.lays "TollOnVowels" "TollOnVowels" "travellers" "I") ∈ lw_all := lw_g (lw_at lw_m1 161 rfl) rfl
theorem q277 : (Jvm.Cond.soleField "TollOnVowels" "travellers") ∈ lw_all := lw_g (lw_at lw_m1 162 rfl) rfl
theorem q278 : (Jvm.Cond.lays "TollOnVowels" "TollOnVowels" "errands" "I") ∈ lw_all := lw_g (lw_at lw_m1 163 rfl) rfl
theorem q279 : (Jvm.Cond.soleField "TollOnVowels" "errands") ∈ lw_all := lw_g (lw_at lw_m1 164 rfl) rfl
theorem q280 : (Jvm.Cond.lays "TollOnVowels" "TollOnVowels" "changes" "I") ∈ lw_all := lw_g (lw_at lw_m1 165 rfl) rfl
theorem q281 : (Jvm.Cond.soleField "TollOnVowels" "changes") ∈ lw_all := lw_g (lw_at lw_m1 166 rfl) rfl
theorem q282 : (Jvm.Cond.laysFinal "TollOnVowels" "TollOnVowels" "text" "[I") ∈ lw_all := lw_g (lw_at lw_m1 167 rfl) rfl
theorem q283 : (Jvm.Cond.soleField "TollOnVowels" "text") ∈ lw_all := lw_g (lw_at lw_m1 168 rfl) rfl
theorem q284 : (Jvm.Cond.lays "TollOnVowels" "TollOnVowels" "signMany" "I") ∈ lw_all := lw_g (lw_at lw_m1 169 rfl) rfl
theorem q285 : (Jvm.Cond.soleField "TollOnVowels" "signMany") ∈ lw_all := lw_g (lw_at lw_m1 170 rfl) rfl
theorem q286 : (Jvm.Cond.lays "TollOnVowels" "TollOnVowels" "at" "I") ∈ lw_all := lw_g (lw_at lw_m1 171 rfl) rfl
theorem q287 : (Jvm.Cond.soleField "TollOnVowels" "at") ∈ lw_all := lw_g (lw_at lw_m1 172 rfl) rfl
theorem q288 : (Jvm.Cond.lays "TollOnVowels" "TollOnVowels" "end" "I") ∈ lw_all := lw_g (lw_at lw_m1 173 rfl) rfl
theorem q289 : (Jvm.Cond.soleField "TollOnVowels" "end") ∈ lw_all := lw_g (lw_at lw_m1 174 rfl) rfl
theorem q290 : (Jvm.Cond.lays "TollOnVowels" "TollOnVowels" "nest" "I") ∈ lw_all := lw_g (lw_at lw_m1 175 rfl) rfl
theorem q291 : (Jvm.Cond.soleField "TollOnVowels" "nest") ∈ lw_all := lw_g (lw_at lw_m1 176 rfl) rfl
theorem q292 : (Jvm.Cond.laysFinal "TollOnVowels" "TollOnVowels" "readLetters" "[I") ∈ lw_all := lw_g (lw_at lw_m1 177 rfl) rfl
theorem q293 : (Jvm.Cond.soleField "TollOnVowels" "readLetters") ∈ lw_all := lw_g (lw_at lw_m1 178 rfl) rfl
theorem q294 : (Jvm.Cond.laysFinal "TollOnVowels" "TollOnVowels" "readLong" "[I") ∈ lw_all := lw_g (lw_at lw_m1 179 rfl) rfl
theorem q295 : (Jvm.Cond.soleField "TollOnVowels" "readLong") ∈ lw_all := lw_g (lw_at lw_m1 180 rfl) rfl
theorem q296 : (Jvm.Cond.laysFinal "TollOnVowels" "TollOnVowels" "readMeaning" "[I") ∈ lw_all := lw_g (lw_at lw_m1 181 rfl) rfl
theorem q297 : (Jvm.Cond.soleField "TollOnVowels" "readMeaning") ∈ lw_all := lw_g (lw_at lw_m1 182 rfl) rfl
theorem q298 : (Jvm.Cond.laysFinal "TollOnVowels" "TollOnVowels" "readSecond" "[I") ∈ lw_all := lw_g (lw_at lw_m1 183 rfl) rfl
theorem q299 : (Jvm.Cond.soleField "TollOnVowels" "readSecond") ∈ lw_all := lw_g (lw_at lw_m1 184 rfl) rfl
theorem q300 : (Jvm.Cond.lays "TollOnVowels" "TollOnVowels" "readMany" "I") ∈ lw_all := lw_g (lw_at lw_m1 185 rfl) rfl
theorem q301 : (Jvm.Cond.soleField "TollOnVowels" "readMany") ∈ lw_all := lw_g (lw_at lw_m1 186 rfl) rfl
theorem q302 : (Jvm.Cond.laysFinal "TollOnVowels" "TollOnVowels" "readAt" "[I") ∈ lw_all := lw_g (lw_at lw_m1 187 rfl) rfl
theorem q303 : (Jvm.Cond.soleField "TollOnVowels" "readAt") ∈ lw_all := lw_g (lw_at lw_m1 188 rfl) rfl
theorem q304 : (Jvm.Cond.laysFinal "TollOnVowels" "TollOnVowels" "readPurse" "[I") ∈ lw_all := lw_g (lw_at lw_m1 189 rfl) rfl
theorem q305 : (Jvm.Cond.soleField "TollOnVowels" "readPurse") ∈ lw_all := lw_g (lw_at lw_m1 190 rfl) rfl
theorem q306 : (Jvm.Cond.laysFinal "TollOnVowels" "TollOnVowels" "readWhose" "[I") ∈ lw_all := lw_g (lw_at lw_m1 191 rfl) rfl
theorem q307 : (Jvm.Cond.soleField "TollOnVowels" "readWhose") ∈ lw_all := lw_g (lw_at lw_m1 192 rfl) rfl
theorem q308 : (Jvm.Cond.laysFinal "TollOnVowels" "TollOnVowels" "readWhat" "[I") ∈ lw_all := lw_g (lw_at lw_m1 193 rfl) rfl
theorem q309 : (Jvm.Cond.soleField "TollOnVowels" "readWhat") ∈ lw_all := lw_g (lw_at lw_m1 194 rfl) rfl
theorem q310 : (Jvm.Cond.laysFinal "TollOnVowels" "TollOnVowels" "readWhere" "[I") ∈ lw_all := lw_g (lw_at lw_m1 195 rfl) rfl
theorem q311 : (Jvm.Cond.soleField "TollOnVowels" "readWhere") ∈ lw_all := lw_g (lw_at lw_m1 196 rfl) rfl
theorem q312 : (Jvm.Cond.laysFinal "TollOnVowels" "TollOnVowels" "readWorth" "[I") ∈ lw_all := lw_g (lw_at lw_m1 197 rfl) rfl
theorem q313 : (Jvm.Cond.soleField "TollOnVowels" "readWorth") ∈ lw_all := lw_g (lw_at lw_m1 198 rfl) rfl
theorem q314 : (Jvm.Cond.lays "TollOnVowels" "TollOnVowels" "askedVowel" "I") ∈ lw_all := lw_g (lw_at lw_m1 199 rfl) rfl
theorem q315 : (Jvm.Cond.soleField "TollOnVowels" "askedVowel") ∈ lw_all := lw_g (lw_at lw_m1 200 rfl) rfl
theorem q316 : (Jvm.Cond.lays "TollOnVowels" "TollOnVowels" "askedStation" "I") ∈ lw_all := lw_g (lw_at lw_m1 201 rfl) rfl
theorem q317 : (Jvm.Cond.soleField "TollOnVowels" "askedStation") ∈ lw_all := lw_g (lw_at lw_m1 202 rfl) rfl
theorem q318 : (Jvm.Cond.lays "TollOnVowels" "TollOnVowels" "askedHour" "I") ∈ lw_all := lw_g (lw_at lw_m1 203 rfl) rfl
theorem q319 : (Jvm.Cond.soleField "TollOnVowels" "askedHour") ∈ lw_all := lw_g (lw_at lw_m1 204 rfl) rfl
theorem q320 : (Jvm.Cond.lays "TollOnVowels" "TollOnVowels" "askedLong" "I") ∈ lw_all := lw_g (lw_at lw_m1 205 rfl) rfl
theorem q321 : (Jvm.Cond.soleField "TollOnVowels" "askedLong") ∈ lw_all := lw_g (lw_at lw_m1 206 rfl) rfl
theorem q322 : (Jvm.Cond.lays "TollOnVowels" "TollOnVowels" "askedPlace" "I") ∈ lw_all := lw_g (lw_at lw_m1 207 rfl) rfl
theorem q323 : (Jvm.Cond.soleField "TollOnVowels" "askedPlace") ∈ lw_all := lw_g (lw_at lw_m1 208 rfl) rfl
theorem q324 : (Jvm.Cond.lays "TollOnVowels" "TollOnVowels" "askedAhead" "I") ∈ lw_all := lw_g (lw_at lw_m1 209 rfl) rfl
theorem q325 : (Jvm.Cond.soleField "TollOnVowels" "askedAhead") ∈ lw_all := lw_g (lw_at lw_m1 210 rfl) rfl
theorem q326 : (Jvm.Cond.lays "TollOnVowels" "TollOnVowels" "askedDouble" "I") ∈ lw_all := lw_g (lw_at lw_m1 211 rfl) rfl
theorem q327 : (Jvm.Cond.soleField "TollOnVowels" "askedDouble") ∈ lw_all := lw_g (lw_at lw_m1 212 rfl) rfl
theorem q328 : (Jvm.Cond.lays "TollOnVowels" "TollOnVowels" "rule" "LTollOnVowels$Node;") ∈ lw_all := lw_g (lw_at lw_m1 213 rfl) rfl
theorem q329 : (Jvm.Cond.soleField "TollOnVowels" "rule") ∈ lw_all := lw_g (lw_at lw_m1 214 rfl) rfl
theorem q330 : (Jvm.Cond.lays "TollOnVowels" "TollOnVowels" "readRule" "LTollOnVowels$Node;") ∈ lw_all := lw_g (lw_at lw_m1 215 rfl) rfl
theorem q331 : (Jvm.Cond.soleField "TollOnVowels" "readRule") ∈ lw_all := lw_g (lw_at lw_m1 216 rfl) rfl
theorem q332 : (Jvm.Cond.laysFinal "TollOnVowels" "TollOnVowels" "byVowel" "[I") ∈ lw_all := lw_g (lw_at lw_m1 217 rfl) rfl
theorem q333 : (Jvm.Cond.soleField "TollOnVowels" "byVowel") ∈ lw_all := lw_g (lw_at lw_m1 218 rfl) rfl
theorem q334 : (Jvm.Cond.laysFinal "TollOnVowels" "TollOnVowels" "undone" "[LTollOnVowels$Road;") ∈ lw_all := lw_g (lw_at lw_m1 219 rfl) rfl
theorem q335 : (Jvm.Cond.soleField "TollOnVowels" "undone") ∈ lw_all := lw_g (lw_at lw_m1 220 rfl) rfl
theorem q336 : (Jvm.Cond.laysFinal "TollOnVowels" "TollOnVowels" "wasAhead" "LTollOnVowels$Road;") ∈ lw_all := lw_g (lw_at lw_m1 221 rfl) rfl
theorem q337 : (Jvm.Cond.soleField "TollOnVowels" "wasAhead") ∈ lw_all := lw_g (lw_at lw_m1 222 rfl) rfl
theorem q338 : (Jvm.Cond.lays "TollOnVowels" "TollOnVowels" "undoMany" "I") ∈ lw_all := lw_g (lw_at lw_m1 223 rfl) rfl
theorem q339 : (Jvm.Cond.soleField "TollOnVowels" "undoMany") ∈ lw_all := lw_g (lw_at lw_m1 224 rfl) rfl
theorem q340 : (Jvm.Cond.lays "TollOnVowels" "TollOnVowels" "doneBits" "I") ∈ lw_all := lw_g (lw_at lw_m1 225 rfl) rfl
theorem q341 : (Jvm.Cond.soleField "TollOnVowels" "doneBits") ∈ lw_all := lw_g (lw_at lw_m1 226 rfl) rfl
theorem q342 : (Jvm.Cond.laysFinal "TollOnVowels" "TollOnVowels" "actSign" "[I") ∈ lw_all := lw_g (lw_at lw_m1 227 rfl) rfl
theorem q343 : (Jvm.Cond.soleField "TollOnVowels" "actSign") ∈ lw_all := lw_g (lw_at lw_m1 228 rfl) rfl
theorem q344 : (Jvm.Cond.laysFinal "TollOnVowels" "TollOnVowels" "actOne" "[I") ∈ lw_all := lw_g (lw_at lw_m1 229 rfl) rfl
theorem q345 : (Jvm.Cond.soleField "TollOnVowels" "actOne") ∈ lw_all := lw_g (lw_at lw_m1 230 rfl) rfl
theorem q346 : (Jvm.Cond.lays "TollOnVowels" "TollOnVowels" "acts" "I") ∈ lw_all := lw_g (lw_at lw_m1 231 rfl) rfl
theorem q347 : (Jvm.Cond.soleField "TollOnVowels" "acts") ∈ lw_all := lw_g (lw_at lw_m1 232 rfl) rfl
theorem q348 : (Jvm.Cond.lays "TollOnVowels" "TollOnVowels" "journeyToll" "I") ∈ lw_all := lw_g (lw_at lw_m1 233 rfl) rfl
theorem q349 : (Jvm.Cond.soleField "TollOnVowels" "journeyToll") ∈ lw_all := lw_g (lw_at lw_m1 234 rfl) rfl
theorem q350 : (Jvm.Cond.laysFinal "TollOnVowels" "TollOnVowels" "told" "[I") ∈ lw_all := lw_g (lw_at lw_m1 235 rfl) rfl
theorem q351 : (Jvm.Cond.soleField "TollOnVowels" "told") ∈ lw_all := lw_g (lw_at lw_m1 236 rfl) rfl
theorem q352 : (Jvm.Cond.laysFinal "TollOnVowels" "TollOnVowels" "rest" "[I") ∈ lw_all := lw_g (lw_at lw_m1 237 rfl) rfl
theorem q353 : (Jvm.Cond.soleField "TollOnVowels" "rest") ∈ lw_all := lw_g (lw_at lw_m1 238 rfl) rfl
theorem q354 : (Jvm.Cond.lays "TollOnVowels" "TollOnVowels" "toldLong" "I") ∈ lw_all := lw_g (lw_at lw_m1 239 rfl) rfl
theorem q355 : (Jvm.Cond.soleField "TollOnVowels" "toldLong") ∈ lw_all := lw_g (lw_at lw_m2 0 rfl) rfl
theorem q356 : (Jvm.Cond.laysFinal "TollOnVowels" "TollOnVowels" "rowOne" "[I") ∈ lw_all := lw_g (lw_at lw_m2 1 rfl) rfl
theorem q357 : (Jvm.Cond.soleField "TollOnVowels" "rowOne") ∈ lw_all := lw_g (lw_at lw_m2 2 rfl) rfl
theorem q358 : (Jvm.Cond.laysFinal "TollOnVowels" "TollOnVowels" "rowOther" "[I") ∈ lw_all := lw_g (lw_at lw_m2 3 rfl) rfl
theorem q359 : (Jvm.Cond.soleField "TollOnVowels" "rowOther") ∈ lw_all := lw_g (lw_at lw_m2 4 rfl) rfl
theorem q360 : (Jvm.Cond.laysFinal "TollOnVowels" "TollOnVowels" "edits" "[I") ∈ lw_all := lw_g (lw_at lw_m2 5 rfl) rfl
theorem q361 : (Jvm.Cond.soleField "TollOnVowels" "edits") ∈ lw_all := lw_g (lw_at lw_m2 6 rfl) rfl
theorem q362 : (Jvm.Cond.laysFinal "TollOnVowels" "TollOnVowels" "apart" "[I") ∈ lw_all := lw_g (lw_at lw_m2 7 rfl) rfl
theorem q363 : (Jvm.Cond.soleField "TollOnVowels" "apart") ∈ lw_all := lw_g (lw_at lw_m2 8 rfl) rfl
theorem q364 : (Jvm.Cond.laysFinal "TollOnVowels" "TollOnVowels" "least" "[I") ∈ lw_all := lw_g (lw_at lw_m2 9 rfl) rfl
theorem q365 : (Jvm.Cond.soleField "TollOnVowels" "least") ∈ lw_all := lw_g (lw_at lw_m2 10 rfl) rfl
theorem q366 : (Jvm.Cond.lays "TollOnVowels" "TollOnVowels" "saidMany" "I") ∈ lw_all := lw_g (lw_at lw_m2 11 rfl) rfl
theorem q367 : (Jvm.Cond.soleField "TollOnVowels" "saidMany") ∈ lw_all := lw_g (lw_at lw_m2 12 rfl) rfl
theorem q368 : (Jvm.Cond.laysFinal "TollOnVowels" "TollOnVowels" "left" "[I") ∈ lw_all := lw_g (lw_at lw_m2 13 rfl) rfl
theorem q369 : (Jvm.Cond.soleField "TollOnVowels" "left") ∈ lw_all := lw_g (lw_at lw_m2 14 rfl) rfl
theorem q370 : (Jvm.Cond.laysFinal "TollOnVowels" "TollOnVowels" "saidBy" "[I") ∈ lw_all := lw_g (lw_at lw_m2 15 rfl) rfl
theorem q371 : (Jvm.Cond.soleField "TollOnVowels" "saidBy") ∈ lw_all := lw_g (lw_at lw_m2 16 rfl) rfl
theorem q372 : (Jvm.Cond.laysFinal "TollOnVowels" "TollOnVowels" "firstSaid" "[I") ∈ lw_all := lw_g (lw_at lw_m2 17 rfl) rfl
theorem q373 : (Jvm.Cond.soleField "TollOnVowels" "firstSaid") ∈ lw_all := lw_g (lw_at lw_m2 18 rfl) rfl
theorem q374 : (Jvm.Cond.lays "TollOnVowels" "TollOnVowels" "saidWays" "I") ∈ lw_all := lw_g (lw_at lw_m2 19 rfl) rfl
theorem q375 : (Jvm.Cond.soleField "TollOnVowels" "saidWays") ∈ lw_all := lw_g (lw_at lw_m2 20 rfl) rfl
theorem q376 : (Jvm.Cond.lays "TollOnVowels" "TollOnVowels" "firstMany" "I") ∈ lw_all := lw_g (lw_at lw_m2 21 rfl) rfl
theorem q377 : (Jvm.Cond.soleField "TollOnVowels" "firstMany") ∈ lw_all := lw_g (lw_at lw_m2 22 rfl) rfl
theorem q378 : (Jvm.Cond.lays "TollOnVowels" "TollOnVowels" "random" "I") ∈ lw_all := lw_g (lw_at lw_m2 23 rfl) rfl
theorem q379 : (Jvm.Cond.soleField "TollOnVowels" "random") ∈ lw_all := lw_g (lw_at lw_m2 24 rfl) rfl
theorem q380 : (Jvm.Cond.laysFinal "TollOnVowels" "TollOnVowels" "kept" "[LTollOnVowels$Road;") ∈ lw_all := lw_g (lw_at lw_m2 25 rfl) rfl
theorem q381 : (Jvm.Cond.soleField "TollOnVowels" "kept") ∈ lw_all := lw_g (lw_at lw_m2 26 rfl) rfl
theorem q382 : (Jvm.Cond.laysFinal "TollOnVowels" "TollOnVowels" "keptChanges" "[I") ∈ lw_all := lw_g (lw_at lw_m2 27 rfl) rfl
theorem q383 : (Jvm.Cond.soleField "TollOnVowels" "keptChanges") ∈ lw_all := lw_g (lw_at lw_m2 28 rfl) rfl
theorem q384 : (Jvm.Cond.laysFinal "TollOnVowels" "TollOnVowels" "row" "[J") ∈ lw_all := lw_g (lw_at lw_m2 29 rfl) rfl
theorem q385 : (Jvm.Cond.soleField "TollOnVowels" "row") ∈ lw_all := lw_g (lw_at lw_m2 30 rfl) rfl
theorem q386 : (Jvm.Cond.lays "TollOnVowels" "TollOnVowels" "rowMany" "I") ∈ lw_all := lw_g (lw_at lw_m2 31 rfl) rfl
theorem q387 : (Jvm.Cond.soleField "TollOnVowels" "rowMany") ∈ lw_all := lw_g (lw_at lw_m2 32 rfl) rfl
theorem q388 : (Jvm.Cond.superclass "TollOnVowels" "java/lang/Object") ∈ lw_all := lw_g (lw_at lw_m2 33 rfl) rfl
theorem q391 : (Jvm.Cond.instanceMethod ({ cls := "TollOnVowels", name := "sign", desc := "(I)I" } : Jvm.MethodName)) ∈ lw_all := lw_g (lw_at lw_m2 36 rfl) rfl
theorem q392 : (Jvm.Cond.selects "TollOnVowels" ({ cls := "TollOnVowels", name := "sign", desc := "(I)I" } : Jvm.MethodName) ({ cls := "TollOnVowels", name := "sign", desc := "(I)I" } : Jvm.MethodName)) ∈ lw_all := lw_g (lw_at lw_m2 37 rfl) rfl
theorem q393 : (Jvm.Cond.code ({ cls := "TollOnVowels", name := "sign", desc := "(I)I" } : Jvm.MethodName) prog_1_method_12_code (3 : Nat) (Option.some Jvm.ClassFile.FieldType.int)) ∈ lw_all := lw_g (lw_at lw_m2 38 rfl) rfl
theorem q395 : (Jvm.Cond.instanceMethod ({ cls := "TollOnVowels", name := "end", desc := "(I)Z" } : Jvm.MethodName)) ∈ lw_all := lw_g (lw_at lw_m2 40 rfl) rfl
theorem q396 : (Jvm.Cond.selects "TollOnVowels" ({ cls := "TollOnVowels", name := "end", desc := "(I)Z" } : Jvm.MethodName) ({ cls := "TollOnVowels", name := "end", desc := "(I)Z" } : Jvm.MethodName)) ∈ lw_all := lw_g (lw_at lw_m2 41 rfl) rfl
theorem q397 : (Jvm.Cond.code ({ cls := "TollOnVowels", name := "end", desc := "(I)Z" } : Jvm.MethodName) prog_1_method_13_code (2 : Nat) (Option.some Jvm.ClassFile.FieldType.boolean)) ∈ lw_all := lw_g (lw_at lw_m2 42 rfl) rfl
theorem q398 : (Jvm.Cond.methodLink "TollOnVowels" (141 : Nat) ({ cls := "TollOnVowels", name := "in", desc := "(JJJ)Z" } : Jvm.MethodName)) ∈ lw_all := lw_g (lw_at lw_m2 43 rfl) rfl
theorem q399 : (Jvm.Cond.static ({ cls := "TollOnVowels", name := "in", desc := "(JJJ)Z" } : Jvm.MethodName)) ∈ lw_all := lw_g (lw_at lw_m2 44 rfl) rfl
theorem q400 : (Jvm.Cond.code ({ cls := "TollOnVowels", name := "in", desc := "(JJJ)Z" } : Jvm.MethodName) prog_1_method_2_code (6 : Nat) (Option.some Jvm.ClassFile.FieldType.boolean)) ∈ lw_all := lw_g (lw_at lw_m2 45 rfl) rfl
theorem q402 : (Jvm.Cond.instanceMethod ({ cls := "TollOnVowels", name := "words", desc := "()I" } : Jvm.MethodName)) ∈ lw_all := lw_g (lw_at lw_m2 47 rfl) rfl
theorem q403 : (Jvm.Cond.selects "TollOnVowels" ({ cls := "TollOnVowels", name := "words", desc := "()I" } : Jvm.MethodName) ({ cls := "TollOnVowels", name := "words", desc := "()I" } : Jvm.MethodName)) ∈ lw_all := lw_g (lw_at lw_m2 48 rfl) rfl
theorem q404 : (Jvm.Cond.code ({ cls := "TollOnVowels", name := "words", desc := "()I" } : Jvm.MethodName) prog_1_method_24_code (6 : Nat) (Option.some Jvm.ClassFile.FieldType.int)) ∈ lw_all := lw_g (lw_at lw_m2 49 rfl) rfl
theorem q405 : (Jvm.Cond.methodLink "TollOnVowels" (206 : Nat) ({ cls := "TollOnVowels", name := "begins", desc := "(I)I" } : Jvm.MethodName)) ∈ lw_all := lw_g (lw_at lw_m2 50 rfl) rfl
theorem q406 : (Jvm.Cond.privateMethod ({ cls := "TollOnVowels", name := "begins", desc := "(I)I" } : Jvm.MethodName)) ∈ lw_tbl := lw_at lw_m2 51 rfl
theorem q407 : (Jvm.Cond.instanceMethod ({ cls := "TollOnVowels", name := "begins", desc := "(I)I" } : Jvm.MethodName)) ∈ lw_all := lw_g (lw_at lw_m2 52 rfl) rfl
theorem q408 : (Jvm.Cond.code ({ cls := "TollOnVowels", name := "begins", desc := "(I)I" } : Jvm.MethodName) prog_1_method_14_code (3 : Nat) (Option.some Jvm.ClassFile.FieldType.int)) ∈ lw_all := lw_g (lw_at lw_m2 53 rfl) rfl
theorem q409 : (Jvm.Cond.methodLink "TollOnVowels" (172 : Nat) ({ cls := "java/lang/Math", name := "min", desc := "(II)I" } : Jvm.MethodName)) ∈ lw_all := lw_g (lw_at lw_m2 54 rfl) rfl
theorem q412 : (Jvm.Cond.methodLink "TollOnVowels" (209 : Nat) ({ cls := "TollOnVowels", name := "readsWord", desc := "()Z" } : Jvm.MethodName)) ∈ lw_all := lw_g (lw_at lw_m2 57 rfl) rfl
theorem q413 : (Jvm.Cond.privateMethod ({ cls := "TollOnVowels", name := "readsWord", desc := "()Z" } : Jvm.MethodName)) ∈ lw_tbl := lw_at lw_m2 58 rfl
theorem q414 : (Jvm.Cond.instanceMethod ({ cls := "TollOnVowels", name := "readsWord", desc := "()Z" } : Jvm.MethodName)) ∈ lw_all := lw_g (lw_at lw_m2 59 rfl) rfl
theorem q415 : (Jvm.Cond.code ({ cls := "TollOnVowels", name := "readsWord", desc := "()Z" } : Jvm.MethodName) prog_1_method_23_code (3 : Nat) (Option.some Jvm.ClassFile.FieldType.boolean)) ∈ lw_all := lw_g (lw_at lw_m2 60 rfl) rfl
theorem q416 : (Jvm.Cond.stringRef "TollOnVowels" (196 : Nat) "0123456789") ∈ lw_tbl := lw_at lw_m2 61 rfl
theorem q417 : (Jvm.Cond.methodLink "TollOnVowels" (198 : Nat) ({ cls := "TollOnVowels", name := "takesOf", desc := "(Ljava/lang/String;)I" } : Jvm.MethodName)) ∈ lw_all := lw_g (lw_at lw_m2 62 rfl) rfl
theorem q418 : (Jvm.Cond.privateMethod ({ cls := "TollOnVowels", name := "takesOf", desc := "(Ljava/lang/String;)I" } : Jvm.MethodName)) ∈ lw_tbl := lw_at lw_m2 63 rfl
theorem q419 : (Jvm.Cond.instanceMethod ({ cls := "TollOnVowels", name := "takesOf", desc := "(Ljava/lang/String;)I" } : Jvm.MethodName)) ∈ lw_all := lw_g (lw_at lw_m2 64 rfl) rfl
theorem q420 : (Jvm.Cond.code ({ cls := "TollOnVowels", name := "takesOf", desc := "(Ljava/lang/String;)I" } : Jvm.MethodName) prog_1_method_18_code (3 : Nat) (Option.some Jvm.ClassFile.FieldType.int)) ∈ lw_all := lw_g (lw_at lw_m2 65 rfl) rfl
theorem q421 : (Jvm.Cond.methodLink "TollOnVowels" (184 : Nat) ({ cls := "TollOnVowels", name := "among", desc := "(Ljava/lang/String;)I" } : Jvm.MethodName)) ∈ lw_all := lw_g (lw_at lw_m2 66 rfl) rfl
theorem q422 : (Jvm.Cond.privateMethod ({ cls := "TollOnVowels", name := "among", desc := "(Ljava/lang/String;)I" } : Jvm.MethodName)) ∈ lw_tbl := lw_at lw_m2 67 rfl
theorem q423 : (Jvm.Cond.instanceMethod ({ cls := "TollOnVowels", name := "among", desc := "(Ljava/lang/String;)I" } : Jvm.MethodName)) ∈ lw_all := lw_g (lw_at lw_m2 68 rfl) rfl
theorem q424 : (Jvm.Cond.code ({ cls := "TollOnVowels", name := "among", desc := "(Ljava/lang/String;)I" } : Jvm.MethodName) prog_1_method_17_code (2 : Nat) (Option.some Jvm.ClassFile.FieldType.int)) ∈ lw_all := lw_g (lw_at lw_m2 69 rfl) rfl
theorem q425 : (Jvm.Cond.methodLink "TollOnVowels" (153 : Nat) ({ cls := "java/lang/String", name := "indexOf", desc := "(I)I" } : Jvm.MethodName)) ∈ lw_all := lw_g (lw_at lw_m2 70 rfl) rfl
theorem q509 : (Jvm.Cond.stringRef "TollOnVowels" (204 : Nat) "abcdefghijklmnopqrstuvwxyz") ∈ lw_tbl := lw_at lw_m2 154 rfl
theorem q510 : (Jvm.Cond.methodLink "TollOnVowels" (212 : Nat) ({ cls := "TollOnVowels", name := "eats", desc := "(C)Z" } : Jvm.MethodName)) ∈ lw_all := lw_g (lw_at lw_m2 155 rfl) rfl
theorem q511 : (Jvm.Cond.privateMethod ({ cls := "TollOnVowels", name := "eats", desc := "(C)Z" } : Jvm.MethodName)) ∈ lw_tbl := lw_at lw_m2 156 rfl
theorem q512 : (Jvm.Cond.instanceMethod ({ cls := "TollOnVowels", name := "eats", desc := "(C)Z" } : Jvm.MethodName)) ∈ lw_all := lw_g (lw_at lw_m2 157 rfl) rfl
theorem q513 : (Jvm.Cond.code ({ cls := "TollOnVowels", name := "eats", desc := "(C)Z" } : Jvm.MethodName) prog_1_method_16_code (3 : Nat) (Option.some Jvm.ClassFile.FieldType.boolean)) ∈ lw_all := lw_g (lw_at lw_m2 158 rfl) rfl
theorem q514 : (Jvm.Cond.methodLink "TollOnVowels" (180 : Nat) ({ cls := "TollOnVowels", name := "isAt", desc := "(C)Z" } : Jvm.MethodName)) ∈ lw_all := lw_g (lw_at lw_m2 159 rfl) rfl
theorem q515 : (Jvm.Cond.privateMethod ({ cls := "TollOnVowels", name := "isAt", desc := "(C)Z" } : Jvm.MethodName)) ∈ lw_tbl := lw_at lw_m2 160 rfl
theorem q516 : (Jvm.Cond.instanceMethod ({ cls := "TollOnVowels", name := "isAt", desc := "(C)Z" } : Jvm.MethodName)) ∈ lw_all := lw_g (lw_at lw_m2 161 rfl) rfl
theorem q517 : (Jvm.Cond.code ({ cls := "TollOnVowels", name := "isAt", desc := "(C)Z" } : Jvm.MethodName) prog_1_method_15_code (2 : Nat) (Option.some Jvm.ClassFile.FieldType.boolean)) ∈ lw_all := lw_g (lw_at lw_m2 162 rfl) rfl
theorem q518 : (Jvm.Cond.methodLink "TollOnVowels" (215 : Nat) ({ cls := "TollOnVowels", name := "faultOf", desc := "(IZ)I" } : Jvm.MethodName)) ∈ lw_all := lw_g (lw_at lw_m2 163 rfl) rfl
theorem q519 : (Jvm.Cond.privateMethod ({ cls := "TollOnVowels", name := "faultOf", desc := "(IZ)I" } : Jvm.MethodName)) ∈ lw_tbl := lw_at lw_m2 164 rfl
theorem q520 : (Jvm.Cond.instanceMethod ({ cls := "TollOnVowels", name := "faultOf", desc := "(IZ)I" } : Jvm.MethodName)) ∈ lw_all := lw_g (lw_at lw_m2 165 rfl) rfl
theorem q521 : (Jvm.Cond.code ({ cls := "TollOnVowels", name := "faultOf", desc := "(IZ)I" } : Jvm.MethodName) prog_1_method_21_code (4 : Nat) (Option.some Jvm.ClassFile.FieldType.int)) ∈ lw_all := lw_g (lw_at lw_m2 166 rfl) rfl
theorem q522 : (Jvm.Cond.methodLink "TollOnVowels" (219 : Nat) ({ cls := "java/lang/System", name := "arraycopy", desc := "(Ljava/lang/Object;ILjava/lang/Object;II)V" } : Jvm.MethodName)) ∈ lw_all := lw_g (lw_at lw_m2 167 rfl) rfl
theorem q525 : (Jvm.Cond.methodLink "TollOnVowels" (225 : Nat) ({ cls := "TollOnVowels", name := "isNew", desc := "()V" } : Jvm.MethodName)) ∈ lw_all := lw_g (lw_at lw_m2 170 rfl) rfl
theorem q526 : (Jvm.Cond.privateMethod ({ cls := "TollOnVowels", name := "isNew", desc := "()V" } : Jvm.MethodName)) ∈ lw_tbl := lw_at lw_m2 171 rfl
theorem q527 : (Jvm.Cond.instanceMethod ({ cls := "TollOnVowels", name := "isNew", desc := "()V" } : Jvm.MethodName)) ∈ lw_all := lw_g (lw_at lw_m2 172 rfl) rfl
theorem q528 : (Jvm.Cond.code ({ cls := "TollOnVowels", name := "isNew", desc := "()V" } : Jvm.MethodName) prog_1_method_25_code (1 : Nat) (Option.none : Option Jvm.ClassFile.FieldType)) ∈ lw_all := lw_g (lw_at lw_m2 173 rfl) rfl
theorem q531 : (Jvm.Cond.instanceMethod ({ cls := "TollOnVowels", name := "travellers", desc := "()I" } : Jvm.MethodName)) ∈ lw_all := lw_g (lw_at lw_m2 176 rfl) rfl
theorem q532 : (Jvm.Cond.selects "TollOnVowels" ({ cls := "TollOnVowels", name := "travellers", desc := "()I" } : Jvm.MethodName) ({ cls := "TollOnVowels", name := "travellers", desc := "()I" } : Jvm.MethodName)) ∈ lw_all := lw_g (lw_at lw_m2 177 rfl) rfl
theorem q533 : (Jvm.Cond.code ({ cls := "TollOnVowels", name := "travellers", desc := "()I" } : Jvm.MethodName) prog_1_method_27_code (6 : Nat) (Option.some Jvm.ClassFile.FieldType.int)) ∈ lw_all := lw_g (lw_at lw_m2 178 rfl) rfl
theorem q534 : (Jvm.Cond.methodLink "TollOnVowels" (241 : Nat) ({ cls := "TollOnVowels", name := "readsTraveller", desc := "()Z" } : Jvm.MethodName)) ∈ lw_all := lw_g (lw_at lw_m2 179 rfl) rfl
theorem q535 : (Jvm.Cond.privateMethod ({ cls := "TollOnVowels", name := "readsTraveller", desc := "()Z" } : Jvm.MethodName)) ∈ lw_tbl := lw_at lw_m2 180 rfl
theorem q536 : (Jvm.Cond.instanceMethod ({ cls := "TollOnVowels", name := "readsTraveller", desc := "()Z" } : Jvm.MethodName)) ∈ lw_all := lw_g (lw_at lw_m2 181 rfl) rfl
theorem q537 : (Jvm.Cond.code ({ cls := "TollOnVowels", name := "readsTraveller", desc := "()Z" } : Jvm.MethodName) prog_1_method_26_code (2 : Nat) (Option.some Jvm.ClassFile.FieldType.boolean)) ∈ lw_all := lw_g (lw_at lw_m2 182 rfl) rfl
theorem q538 : (Jvm.Cond.methodLink "TollOnVowels" (234 : Nat) ({ cls := "TollOnVowels", name := "readsStation", desc := "()I" } : Jvm.MethodName)) ∈ lw_all := lw_g (lw_at lw_m2 183 rfl) rfl
theorem q539 : (Jvm.Cond.privateMethod ({ cls := "TollOnVowels", name := "readsStation", desc := "()I" } : Jvm.MethodName)) ∈ lw_tbl := lw_at lw_m2 184 rfl
theorem q540 : (Jvm.Cond.instanceMethod ({ cls := "TollOnVowels", name := "readsStation", desc := "()I" } : Jvm.MethodName)) ∈ lw_all := lw_g (lw_at lw_m2 185 rfl) rfl
theorem q541 : (Jvm.Cond.code ({ cls := "TollOnVowels", name := "readsStation", desc := "()I" } : Jvm.MethodName) prog_1_method_22_code (1 : Nat) (Option.some Jvm.ClassFile.FieldType.int)) ∈ lw_all := lw_g (lw_at lw_m2 186 rfl) rfl
theorem q542 : (Jvm.Cond.methodLink "TollOnVowels" (238 : Nat) ({ cls := "TollOnVowels", name := "number", desc := "(I)I" } : Jvm.MethodName)) ∈ lw_all := lw_g (lw_at lw_m2 187 rfl) rfl
theorem q543 : (Jvm.Cond.privateMethod ({ cls := "TollOnVowels", name := "number", desc := "(I)I" } : Jvm.MethodName)) ∈ lw_tbl := lw_at lw_m2 188 rfl
theorem q544 : (Jvm.Cond.instanceMethod ({ cls := "TollOnVowels", name := "number", desc := "(I)I" } : Jvm.MethodName)) ∈ lw_all := lw_g (lw_at lw_m2 189 rfl) rfl
theorem q545 : (Jvm.Cond.code ({ cls := "TollOnVowels", name := "number", desc := "(I)I" } : Jvm.MethodName) prog_1_method_20_code (4 : Nat) (Option.some Jvm.ClassFile.FieldType.int)) ∈ lw_all := lw_g (lw_at lw_m2 190 rfl) rfl
theorem q546 : (Jvm.Cond.methodLink "TollOnVowels" (192 : Nat) ({ cls := "TollOnVowels", name := "isDigit", desc := "()Z" } : Jvm.MethodName)) ∈ lw_all := lw_g (lw_at lw_m2 191 rfl) rfl
theorem q547 : (Jvm.Cond.privateMethod ({ cls := "TollOnVowels", name := "isDigit", desc := "()Z" } : Jvm.MethodName)) ∈ lw_tbl := lw_at lw_m2 192 rfl
theorem q548 : (Jvm.Cond.instanceMethod ({ cls := "TollOnVowels", name := "isDigit", desc := "()Z" } : Jvm.MethodName)) ∈ lw_all := lw_g (lw_at lw_m2 193 rfl) rfl
theorem q549 : (Jvm.Cond.code ({ cls := "TollOnVowels", name := "isDigit", desc := "()Z" } : Jvm.MethodName) prog_1_method_19_code (1 : Nat) (Option.some Jvm.ClassFile.FieldType.boolean)) ∈ lw_all := lw_g (lw_at lw_m2 194 rfl) rfl
theorem q550 : (Jvm.Cond.constantLong "TollOnVowels" (188 : Nat) (48 : Int64)) ∈ lw_all := lw_g (lw_at lw_m2 195 rfl) rfl
theorem q551 : (Jvm.Cond.constantLong "TollOnVowels" (190 : Nat) (57 : Int64)) ∈ lw_all := lw_g (lw_at lw_m2 196 rfl) rfl
theorem q553 : (Jvm.Cond.instanceMethod ({ cls := "TollOnVowels", name := "errands", desc := "()I" } : Jvm.MethodName)) ∈ lw_all := lw_g (lw_at lw_m2 198 rfl) rfl
theorem q554 : (Jvm.Cond.selects "TollOnVowels" ({ cls := "TollOnVowels", name := "errands", desc := "()I" } : Jvm.MethodName) ({ cls := "TollOnVowels", name := "errands", desc := "()I" } : Jvm.MethodName)) ∈ lw_all := lw_g (lw_at lw_m2 199 rfl) rfl
theorem q555 : (Jvm.Cond.code ({ cls := "TollOnVowels", name := "errands", desc := "()I" } : Jvm.MethodName) prog_1_method_29_code (6 : Nat) (Option.some Jvm.ClassFile.FieldType.int)) ∈ lw_all := lw_g (lw_at lw_m2 200 rfl) rfl
theorem q556 : (Jvm.Cond.methodLink "TollOnVowels" (255 : Nat) ({ cls := "TollOnVowels", name := "readsErrand", desc := "()Z" } : Jvm.MethodName)) ∈ lw_all := lw_g (lw_at lw_m2 201 rfl) rfl
theorem q557 : (Jvm.Cond.privateMethod ({ cls := "TollOnVowels", name := "readsErrand", desc := "()Z" } : Jvm.MethodName)) ∈ lw_tbl := lw_at lw_m2 202 rfl
theorem q558 : (Jvm.Cond.instanceMethod ({ cls := "TollOnVowels", name := "readsErrand", desc := "()Z" } : Jvm.MethodName)) ∈ lw_all := lw_g (lw_at lw_m2 203 rfl) rfl
theorem q559 : (Jvm.Cond.code ({ cls := "TollOnVowels", name := "readsErrand", desc := "()Z" } : Jvm.MethodName) prog_1_method_28_code (2 : Nat) (Option.some Jvm.ClassFile.FieldType.boolean)) ∈ lw_all := lw_g (lw_at lw_m2 204 rfl) rfl
theorem q561 : (Jvm.Cond.instanceMethod ({ cls := "TollOnVowels", name := "road", desc := "(I)I" } : Jvm.MethodName)) ∈ lw_all := lw_g (lw_at lw_m2 206 rfl) rfl
theorem q562 : (Jvm.Cond.selects "TollOnVowels" ({ cls := "TollOnVowels", name := "road", desc := "(I)I" } : Jvm.MethodName) ({ cls := "TollOnVowels", name := "road", desc := "(I)I" } : Jvm.MethodName)) ∈ lw_all := lw_g (lw_at lw_m2 207 rfl) rfl
theorem q563 : (Jvm.Cond.code ({ cls := "TollOnVowels", name := "road", desc := "(I)I" } : Jvm.MethodName) prog_1_method_30_code (5 : Nat) (Option.some Jvm.ClassFile.FieldType.int)) ∈ lw_all := lw_g (lw_at lw_m2 208 rfl) rfl
theorem q564 : (Jvm.Cond.methodLink "TollOnVowels" (258 : Nat) ({ cls := "java/lang/Math", name := "max", desc := "(II)I" } : Jvm.MethodName)) ∈ lw_all := lw_g (lw_at lw_m2 209 rfl) rfl
theorem q565 : (Jvm.Cond.constantLong "TollOnVowels" (261 : Nat) (6 : Int64)) ∈ lw_all := lw_g (lw_at lw_m2 210 rfl) rfl
theorem q567 : (Jvm.Cond.instanceMethod ({ cls := "TollOnVowels", name := "rule", desc := "()I" } : Jvm.MethodName)) ∈ lw_all := lw_g (lw_at lw_m2 212 rfl) rfl
theorem q568 : (Jvm.Cond.selects "TollOnVowels" ({ cls := "TollOnVowels", name := "rule", desc := "()I" } : Jvm.MethodName) ({ cls := "TollOnVowels", name := "rule", desc := "()I" } : Jvm.MethodName)) ∈ lw_all := lw_g (lw_at lw_m2 213 rfl) rfl
theorem q569 : (Jvm.Cond.code ({ cls := "TollOnVowels", name := "rule", desc := "()I" } : Jvm.MethodName) prog_1_method_35_code (2 : Nat) (Option.some Jvm.ClassFile.FieldType.int)) ∈ lw_all := lw_g (lw_at lw_m2 214 rfl) rfl
theorem q570 : (Jvm.Cond.methodLink "TollOnVowels" (308 : Nat) ({ cls := "TollOnVowels", name := "readsRule", desc := "()I" } : Jvm.MethodName)) ∈ lw_all := lw_g (lw_at lw_m2 215 rfl) rfl
theorem q571 : (Jvm.Cond.privateMethod ({ cls := "TollOnVowels", name := "readsRule", desc := "()I" } : Jvm.MethodName)) ∈ lw_tbl := lw_at lw_m2 216 rfl
theorem q572 : (Jvm.Cond.instanceMethod ({ cls := "TollOnVowels", name := "readsRule", desc := "()I" } : Jvm.MethodName)) ∈ lw_all := lw_g (lw_at lw_m2 217 rfl) rfl
theorem q573 : (Jvm.Cond.code ({ cls := "TollOnVowels", name := "readsRule", desc := "()I" } : Jvm.MethodName) prog_1_method_34_code (2 : Nat) (Option.some Jvm.ClassFile.FieldType.int)) ∈ lw_all := lw_g (lw_at lw_m2 218 rfl) rfl
theorem q574 : (Jvm.Cond.methodLink "TollOnVowels" (285 : Nat) ({ cls := "TollOnVowels", name := "reads", desc := "(I)LTollOnVowels$Node;" } : Jvm.MethodName)) ∈ lw_all := lw_g (lw_at lw_m2 219 rfl) rfl
theorem q575 : (Jvm.Cond.privateMethod ({ cls := "TollOnVowels", name := "reads", desc := "(I)LTollOnVowels$Node;" } : Jvm.MethodName)) ∈ lw_tbl := lw_at lw_m2 220 rfl
theorem q576 : (Jvm.Cond.instanceMethod ({ cls := "TollOnVowels", name := "reads", desc := "(I)LTollOnVowels$Node;" } : Jvm.MethodName)) ∈ lw_all := lw_g (lw_at lw_m2 221 rfl) rfl
theorem q577 : (Jvm.Cond.code ({ cls := "TollOnVowels", name := "reads", desc := "(I)LTollOnVowels$Node;" } : Jvm.MethodName) prog_1_method_33_code (6 : Nat) (Option.some (Jvm.ClassFile.FieldType.object "TollOnVowels$Node"))) ∈ lw_all := lw_g (lw_at lw_m2 222 rfl) rfl
theorem q578 : (Jvm.Cond.methodLink "TollOnVowels" (266 : Nat) ({ cls := "TollOnVowels", name := "readsThing", desc := "()LTollOnVowels$Node;" } : Jvm.MethodName)) ∈ lw_all := lw_g (lw_at lw_m2 223 rfl) rfl
theorem q579 : (Jvm.Cond.privateMethod ({ cls := "TollOnVowels", name := "readsThing", desc := "()LTollOnVowels$Node;" } : Jvm.MethodName)) ∈ lw_tbl := lw_at lw_m2 224 rfl
theorem q580 : (Jvm.Cond.instanceMethod ({ cls := "TollOnVowels", name := "readsThing", desc := "()LTollOnVowels$Node;" } : Jvm.MethodName)) ∈ lw_all := lw_g (lw_at lw_m2 225 rfl) rfl
theorem q581 : (Jvm.Cond.code ({ cls := "TollOnVowels", name := "readsThing", desc := "()LTollOnVowels$Node;" } : Jvm.MethodName) prog_1_method_31_code (2 : Nat) (Option.some (Jvm.ClassFile.FieldType.object "TollOnVowels$Node"))) ∈ lw_all := lw_g (lw_at lw_m2 226 rfl) rfl
theorem q582 : (Jvm.Cond.classLink "TollOnVowels" (270 : Nat) "TollOnVowels$Less") ∈ lw_all := lw_g (lw_at lw_m2 227 rfl) rfl
theorem q584 : (Jvm.Cond.methodLink "TollOnVowels" (272 : Nat) ({ cls := "TollOnVowels$Less", name := "<init>", desc := "(LTollOnVowels;LTollOnVowels$Node;)V" } : Jvm.MethodName)) ∈ lw_all := lw_g (lw_at lw_m2 229 rfl) rfl
theorem q601 : (Jvm.Cond.classLink "TollOnVowels" (275 : Nat) "TollOnVowels$Number") ∈ lw_all := lw_g (lw_at lw_m3 6 rfl) rfl
theorem q603 : (Jvm.Cond.methodLink "TollOnVowels" (277 : Nat) ({ cls := "TollOnVowels$Number", name := "<init>", desc := "(LTollOnVowels;I)V" } : Jvm.MethodName)) ∈ lw_all := lw_g (lw_at lw_m3 8 rfl) rfl
theorem q615 : (Jvm.Cond.stringRef "TollOnVowels" (280 : Nat) "vshlpnd") ∈ lw_tbl := lw_at lw_m3 20 rfl
theorem q616 : (Jvm.Cond.classLink "TollOnVowels" (282 : Nat) "TollOnVowels$Sign") ∈ lw_all := lw_g (lw_at lw_m3 21 rfl) rfl
theorem q618 : (Jvm.Cond.methodLink "TollOnVowels" (284 : Nat) ({ cls := "TollOnVowels$Sign", name := "<init>", desc := "(LTollOnVowels;I)V" } : Jvm.MethodName)) ∈ lw_all := lw_g (lw_at lw_m3 23 rfl) rfl
theorem q630 : (Jvm.Cond.methodLink "TollOnVowels" (295 : Nat) ({ cls := "TollOnVowels", name := "acts", desc := "(I)Ljava/lang/String;" } : Jvm.MethodName)) ∈ lw_all := lw_g (lw_at lw_m3 35 rfl) rfl
theorem q631 : (Jvm.Cond.static ({ cls := "TollOnVowels", name := "acts", desc := "(I)Ljava/lang/String;" } : Jvm.MethodName)) ∈ lw_all := lw_g (lw_at lw_m3 36 rfl) rfl
theorem q632 : (Jvm.Cond.code ({ cls := "TollOnVowels", name := "acts", desc := "(I)Ljava/lang/String;" } : Jvm.MethodName) prog_1_method_32_code (1 : Nat) (Option.some (Jvm.ClassFile.FieldType.object "java/lang/String"))) ∈ lw_all := lw_g (lw_at lw_m3 37 rfl) rfl
theorem q633 : (Jvm.Cond.stringRef "TollOnVowels" (289 : Nat) "<>=") ∈ lw_tbl := lw_at lw_m3 38 rfl
theorem q634 : (Jvm.Cond.stringRef "TollOnVowels" (291 : Nat) "+-") ∈ lw_tbl := lw_at lw_m3 39 rfl
theorem q635 : (Jvm.Cond.stringRef "TollOnVowels" (293 : Nat) "*/") ∈ lw_tbl := lw_at lw_m3 40 rfl
theorem q636 : (Jvm.Cond.classLink "TollOnVowels" (299 : Nat) "TollOnVowels$Act") ∈ lw_all := lw_g (lw_at lw_m3 41 rfl) rfl
theorem q638 : (Jvm.Cond.methodLink "TollOnVowels" (301 : Nat) ({ cls := "TollOnVowels$Act", name := "<init>", desc := "(LTollOnVowels;CLTollOnVowels$Node;LTollOnVowels$Node;)V" } : Jvm.MethodName)) ∈ lw_all := lw_g (lw_at lw_m3 43 rfl) rfl
theorem q657 : (Jvm.Cond.instanceMethod ({ cls := "TollOnVowels", name := "sheet", desc := "(IIII)I" } : Jvm.MethodName)) ∈ lw_all := lw_g (lw_at lw_m3 62 rfl) rfl
theorem q658 : (Jvm.Cond.selects "TollOnVowels" ({ cls := "TollOnVowels", name := "sheet", desc := "(IIII)I" } : Jvm.MethodName) ({ cls := "TollOnVowels", name := "sheet", desc := "(IIII)I" } : Jvm.MethodName)) ∈ lw_all := lw_g (lw_at lw_m3 63 rfl) rfl
theorem q659 : (Jvm.Cond.code ({ cls := "TollOnVowels", name := "sheet", desc := "(IIII)I" } : Jvm.MethodName) prog_1_method_42_code (9 : Nat) (Option.some Jvm.ClassFile.FieldType.int)) ∈ lw_all := lw_g (lw_at lw_m3 64 rfl) rfl
theorem q660 : (Jvm.Cond.constantLong "TollOnVowels" (373 : Nat) (3 : Int64)) ∈ lw_all := lw_g (lw_at lw_m3 65 rfl) rfl
theorem q662 : (Jvm.Cond.instanceMethod ({ cls := "TollOnVowels", name := "undo", desc := "()I" } : Jvm.MethodName)) ∈ lw_all := lw_g (lw_at lw_m3 67 rfl) rfl
theorem q663 : (Jvm.Cond.selects "TollOnVowels" ({ cls := "TollOnVowels", name := "undo", desc := "()I" } : Jvm.MethodName) ({ cls := "TollOnVowels", name := "undo", desc := "()I" } : Jvm.MethodName)) ∈ lw_all := lw_g (lw_at lw_m3 68 rfl) rfl
theorem q664 : (Jvm.Cond.code ({ cls := "TollOnVowels", name := "undo", desc := "()I" } : Jvm.MethodName) prog_1_method_44_code (1 : Nat) (Option.some Jvm.ClassFile.FieldType.int)) ∈ lw_all := lw_g (lw_at lw_m3 69 rfl) rfl
theorem q665 : (Jvm.Cond.methodLink "TollOnVowels" (375 : Nat) ({ cls := "TollOnVowels$Road", name := "becomes", desc := "(LTollOnVowels$Road;)V" } : Jvm.MethodName)) ∈ lw_all := lw_g (lw_at lw_m3 70 rfl) rfl
theorem q671 : (Jvm.Cond.instanceMethod ({ cls := "TollOnVowels", name := "toll", desc := "(II)I" } : Jvm.MethodName)) ∈ lw_all := lw_g (lw_at lw_m3 76 rfl) rfl
theorem q672 : (Jvm.Cond.selects "TollOnVowels" ({ cls := "TollOnVowels", name := "toll", desc := "(II)I" } : Jvm.MethodName) ({ cls := "TollOnVowels", name := "toll", desc := "(II)I" } : Jvm.MethodName)) ∈ lw_all := lw_g (lw_at lw_m3 77 rfl) rfl
theorem q673 : (Jvm.Cond.code ({ cls := "TollOnVowels", name := "toll", desc := "(II)I" } : Jvm.MethodName) prog_1_method_46_code (5 : Nat) (Option.some Jvm.ClassFile.FieldType.int)) ∈ lw_all := lw_g (lw_at lw_m3 78 rfl) rfl
theorem q674 : (Jvm.Cond.methodLink "TollOnVowels" (347 : Nat) ({ cls := "TollOnVowels", name := "isWord", desc := "(I)Z" } : Jvm.MethodName)) ∈ lw_all := lw_g (lw_at lw_m3 79 rfl) rfl
theorem q675 : (Jvm.Cond.privateMethod ({ cls := "TollOnVowels", name := "isWord", desc := "(I)Z" } : Jvm.MethodName)) ∈ lw_tbl := lw_at lw_m3 80 rfl
theorem q676 : (Jvm.Cond.instanceMethod ({ cls := "TollOnVowels", name := "isWord", desc := "(I)Z" } : Jvm.MethodName)) ∈ lw_all := lw_g (lw_at lw_m3 81 rfl) rfl
theorem q677 : (Jvm.Cond.code ({ cls := "TollOnVowels", name := "isWord", desc := "(I)Z" } : Jvm.MethodName) prog_1_method_6_code (2 : Nat) (Option.some Jvm.ClassFile.FieldType.boolean)) ∈ lw_all := lw_g (lw_at lw_m3 82 rfl) rfl
theorem q678 : (Jvm.Cond.methodLink "TollOnVowels" (368 : Nat) ({ cls := "TollOnVowels", name := "isStation", desc := "(I)Z" } : Jvm.MethodName)) ∈ lw_all := lw_g (lw_at lw_m3 83 rfl) rfl
theorem q679 : (Jvm.Cond.privateMethod ({ cls := "TollOnVowels", name := "isStation", desc := "(I)Z" } : Jvm.MethodName)) ∈ lw_tbl := lw_at lw_m3 84 rfl
theorem q680 : (Jvm.Cond.instanceMethod ({ cls := "TollOnVowels", name := "isStation", desc := "(I)Z" } : Jvm.MethodName)) ∈ lw_all := lw_g (lw_at lw_m3 85 rfl) rfl
theorem q681 : (Jvm.Cond.code ({ cls := "TollOnVowels", name := "isStation", desc := "(I)Z" } : Jvm.MethodName) prog_1_method_5_code (2 : Nat) (Option.some Jvm.ClassFile.FieldType.boolean)) ∈ lw_all := lw_g (lw_at lw_m3 86 rfl) rfl
theorem q682 : (Jvm.Cond.methodLink "TollOnVowels" (385 : Nat) ({ cls := "TollOnVowels", name := "tollOf", desc := "(III)I" } : Jvm.MethodName)) ∈ lw_all := lw_g (lw_at lw_m3 87 rfl) rfl
theorem q683 : (Jvm.Cond.privateMethod ({ cls := "TollOnVowels", name := "tollOf", desc := "(III)I" } : Jvm.MethodName)) ∈ lw_tbl := lw_at lw_m3 88 rfl
theorem q684 : (Jvm.Cond.instanceMethod ({ cls := "TollOnVowels", name := "tollOf", desc := "(III)I" } : Jvm.MethodName)) ∈ lw_all := lw_g (lw_at lw_m3 89 rfl) rfl
theorem q685 : (Jvm.Cond.code ({ cls := "TollOnVowels", name := "tollOf", desc := "(III)I" } : Jvm.MethodName) prog_1_method_36_code (8 : Nat) (Option.some Jvm.ClassFile.FieldType.int)) ∈ lw_all := lw_g (lw_at lw_m3 90 rfl) rfl
theorem q686 : (Jvm.Cond.methodLink "TollOnVowels" (159 : Nat) ({ cls := "TollOnVowels", name := "vowelAt", desc := "(II)I" } : Jvm.MethodName)) ∈ lw_all := lw_g (lw_at lw_m3 91 rfl) rfl
theorem q687 : (Jvm.Cond.privateMethod ({ cls := "TollOnVowels", name := "vowelAt", desc := "(II)I" } : Jvm.MethodName)) ∈ lw_tbl := lw_at lw_m3 92 rfl
theorem q688 : (Jvm.Cond.instanceMethod ({ cls := "TollOnVowels", name := "vowelAt", desc := "(II)I" } : Jvm.MethodName)) ∈ lw_all := lw_g (lw_at lw_m3 93 rfl) rfl
theorem q689 : (Jvm.Cond.code ({ cls := "TollOnVowels", name := "vowelAt", desc := "(II)I" } : Jvm.MethodName) prog_1_method_9_code (3 : Nat) (Option.some Jvm.ClassFile.FieldType.int)) ∈ lw_all := lw_g (lw_at lw_m3 94 rfl) rfl
theorem q690 : (Jvm.Cond.stringRef "TollOnVowels" (151 : Nat) "aeiou") ∈ lw_tbl := lw_at lw_m3 95 rfl
theorem q691 : (Jvm.Cond.methodLink "TollOnVowels" (335 : Nat) ({ cls := "TollOnVowels$Node", name := "value", desc := "()I" } : Jvm.MethodName)) ∈ lw_all := lw_g (lw_at lw_m3 96 rfl) rfl
theorem q708 : (Jvm.Cond.methodLink "TollOnVowels" (392 : Nat) ({ cls := "TollOnVowels", name := "tells", desc := "(J)V" } : Jvm.MethodName)) ∈ lw_all := lw_g (lw_at lw_m3 113 rfl) rfl
theorem q709 : (Jvm.Cond.privateMethod ({ cls := "TollOnVowels", name := "tells", desc := "(J)V" } : Jvm.MethodName)) ∈ lw_tbl := lw_at lw_m3 114 rfl
theorem q710 : (Jvm.Cond.instanceMethod ({ cls := "TollOnVowels", name := "tells", desc := "(J)V" } : Jvm.MethodName)) ∈ lw_all := lw_g (lw_at lw_m3 115 rfl) rfl
theorem q711 : (Jvm.Cond.code ({ cls := "TollOnVowels", name := "tells", desc := "(J)V" } : Jvm.MethodName) prog_1_method_104_code (3 : Nat) (Option.none : Option Jvm.ClassFile.FieldType)) ∈ lw_all := lw_g (lw_at lw_m3 116 rfl) rfl
theorem q713 : (Jvm.Cond.instanceMethod ({ cls := "TollOnVowels", name := "walk", desc := "(II)I" } : Jvm.MethodName)) ∈ lw_all := lw_g (lw_at lw_m3 118 rfl) rfl
theorem q714 : (Jvm.Cond.selects "TollOnVowels" ({ cls := "TollOnVowels", name := "walk", desc := "(II)I" } : Jvm.MethodName) ({ cls := "TollOnVowels", name := "walk", desc := "(II)I" } : Jvm.MethodName)) ∈ lw_all := lw_g (lw_at lw_m3 119 rfl) rfl
theorem q715 : (Jvm.Cond.code ({ cls := "TollOnVowels", name := "walk", desc := "(II)I" } : Jvm.MethodName) prog_1_method_51_code (3 : Nat) (Option.some Jvm.ClassFile.FieldType.int)) ∈ lw_all := lw_g (lw_at lw_m3 120 rfl) rfl
theorem q716 : (Jvm.Cond.methodLink "TollOnVowels" (415 : Nat) ({ cls := "TollOnVowels", name := "walks", desc := "(LTollOnVowels$Road;II)I" } : Jvm.MethodName)) ∈ lw_all := lw_g (lw_at lw_m3 121 rfl) rfl
theorem q717 : (Jvm.Cond.privateMethod ({ cls := "TollOnVowels", name := "walks", desc := "(LTollOnVowels$Road;II)I" } : Jvm.MethodName)) ∈ lw_tbl := lw_at lw_m3 122 rfl
theorem q718 : (Jvm.Cond.instanceMethod ({ cls := "TollOnVowels", name := "walks", desc := "(LTollOnVowels$Road;II)I" } : Jvm.MethodName)) ∈ lw_all := lw_g (lw_at lw_m3 123 rfl) rfl
theorem q719 : (Jvm.Cond.code ({ cls := "TollOnVowels", name := "walks", desc := "(LTollOnVowels$Road;II)I" } : Jvm.MethodName) prog_1_method_47_code (5 : Nat) (Option.some Jvm.ClassFile.FieldType.int)) ∈ lw_all := lw_g (lw_at lw_m3 124 rfl) rfl
theorem q720 : (Jvm.Cond.methodLink "TollOnVowels" (362 : Nat) ({ cls := "TollOnVowels", name := "isTraveller", desc := "(I)Z" } : Jvm.MethodName)) ∈ lw_all := lw_g (lw_at lw_m3 125 rfl) rfl
theorem q721 : (Jvm.Cond.privateMethod ({ cls := "TollOnVowels", name := "isTraveller", desc := "(I)Z" } : Jvm.MethodName)) ∈ lw_tbl := lw_at lw_m3 126 rfl
theorem q722 : (Jvm.Cond.instanceMethod ({ cls := "TollOnVowels", name := "isTraveller", desc := "(I)Z" } : Jvm.MethodName)) ∈ lw_all := lw_g (lw_at lw_m3 127 rfl) rfl
theorem q723 : (Jvm.Cond.code ({ cls := "TollOnVowels", name := "isTraveller", desc := "(I)Z" } : Jvm.MethodName) prog_1_method_7_code (2 : Nat) (Option.some Jvm.ClassFile.FieldType.boolean)) ∈ lw_all := lw_g (lw_at lw_m3 128 rfl) rfl
theorem q724 : (Jvm.Cond.methodLink "TollOnVowels" (419 : Nat) ({ cls := "TollOnVowels", name := "counts", desc := "(I)I" } : Jvm.MethodName)) ∈ lw_all := lw_g (lw_at lw_m3 129 rfl) rfl
theorem q725 : (Jvm.Cond.privateMethod ({ cls := "TollOnVowels", name := "counts", desc := "(I)I" } : Jvm.MethodName)) ∈ lw_tbl := lw_at lw_m3 130 rfl
theorem q726 : (Jvm.Cond.instanceMethod ({ cls := "TollOnVowels", name := "counts", desc := "(I)I" } : Jvm.MethodName)) ∈ lw_all := lw_g (lw_at lw_m3 131 rfl) rfl
theorem q727 : (Jvm.Cond.code ({ cls := "TollOnVowels", name := "counts", desc := "(I)I" } : Jvm.MethodName) prog_1_method_45_code (2 : Nat) (Option.some Jvm.ClassFile.FieldType.int)) ∈ lw_all := lw_g (lw_at lw_m3 132 rfl) rfl
theorem q728 : (Jvm.Cond.methodLink "TollOnVowels" (379 : Nat) ({ cls := "TollOnVowels", name := "putsBy", desc := "(LTollOnVowels$Road;)V" } : Jvm.MethodName)) ∈ lw_all := lw_g (lw_at lw_m3 133 rfl) rfl
theorem q729 : (Jvm.Cond.privateMethod ({ cls := "TollOnVowels", name := "putsBy", desc := "(LTollOnVowels$Road;)V" } : Jvm.MethodName)) ∈ lw_tbl := lw_at lw_m3 134 rfl
theorem q730 : (Jvm.Cond.instanceMethod ({ cls := "TollOnVowels", name := "putsBy", desc := "(LTollOnVowels$Road;)V" } : Jvm.MethodName)) ∈ lw_all := lw_g (lw_at lw_m3 135 rfl) rfl
theorem q731 : (Jvm.Cond.code ({ cls := "TollOnVowels", name := "putsBy", desc := "(LTollOnVowels$Road;)V" } : Jvm.MethodName) prog_1_method_43_code (4 : Nat) (Option.none : Option Jvm.ClassFile.FieldType)) ∈ lw_all := lw_g (lw_at lw_m3 136 rfl) rfl
theorem q733 : (Jvm.Cond.instanceMethod ({ cls := "TollOnVowels", name := "pause", desc := "(I)I" } : Jvm.MethodName)) ∈ lw_all := lw_g (lw_at lw_m3 138 rfl) rfl
theorem q734 : (Jvm.Cond.selects "TollOnVowels" ({ cls := "TollOnVowels", name := "pause", desc := "(I)I" } : Jvm.MethodName) ({ cls := "TollOnVowels", name := "pause", desc := "(I)I" } : Jvm.MethodName)) ∈ lw_all := lw_g (lw_at lw_m3 139 rfl) rfl
theorem q735 : (Jvm.Cond.code ({ cls := "TollOnVowels", name := "pause", desc := "(I)I" } : Jvm.MethodName) prog_1_method_52_code (2 : Nat) (Option.some Jvm.ClassFile.FieldType.int)) ∈ lw_all := lw_g (lw_at lw_m3 140 rfl) rfl
theorem q736 : (Jvm.Cond.constantLong "TollOnVowels" (422 : Nat) (99 : Int64)) ∈ lw_all := lw_g (lw_at lw_m3 141 rfl) rfl
theorem q738 : (Jvm.Cond.instanceMethod ({ cls := "TollOnVowels", name := "say", desc := "(II)I" } : Jvm.MethodName)) ∈ lw_all := lw_g (lw_at lw_m3 143 rfl) rfl
theorem q739 : (Jvm.Cond.selects "TollOnVowels" ({ cls := "TollOnVowels", name := "say", desc := "(II)I" } : Jvm.MethodName) ({ cls := "TollOnVowels", name := "say", desc := "(II)I" } : Jvm.MethodName)) ∈ lw_all := lw_g (lw_at lw_m3 144 rfl) rfl
theorem q740 : (Jvm.Cond.code ({ cls := "TollOnVowels", name := "say", desc := "(II)I" } : Jvm.MethodName) prog_1_method_53_code (4 : Nat) (Option.some Jvm.ClassFile.FieldType.int)) ∈ lw_all := lw_g (lw_at lw_m3 145 rfl) rfl
theorem q741 : (Jvm.Cond.methodLink "TollOnVowels" (424 : Nat) ({ cls := "TollOnVowels", name := "says", desc := "(LTollOnVowels$Road;II)I" } : Jvm.MethodName)) ∈ lw_all := lw_g (lw_at lw_m3 146 rfl) rfl
theorem q742 : (Jvm.Cond.privateMethod ({ cls := "TollOnVowels", name := "says", desc := "(LTollOnVowels$Road;II)I" } : Jvm.MethodName)) ∈ lw_tbl := lw_at lw_m3 147 rfl
theorem q743 : (Jvm.Cond.instanceMethod ({ cls := "TollOnVowels", name := "says", desc := "(LTollOnVowels$Road;II)I" } : Jvm.MethodName)) ∈ lw_all := lw_g (lw_at lw_m3 148 rfl) rfl
theorem q744 : (Jvm.Cond.code ({ cls := "TollOnVowels", name := "says", desc := "(LTollOnVowels$Road;II)I" } : Jvm.MethodName) prog_1_method_49_code (6 : Nat) (Option.some Jvm.ClassFile.FieldType.int)) ∈ lw_all := lw_g (lw_at lw_m3 149 rfl) rfl
theorem q745 : (Jvm.Cond.methodLink "TollOnVowels" (399 : Nat) ({ cls := "TollOnVowels$Road", name := "pays", desc := "(II)V" } : Jvm.MethodName)) ∈ lw_all := lw_g (lw_at lw_m3 150 rfl) rfl
theorem q749 : (Jvm.Cond.methodLink "TollOnVowels" (403 : Nat) ({ cls := "TollOnVowels$Road", name := "hears", desc := "(II)V" } : Jvm.MethodName)) ∈ lw_all := lw_g (lw_at lw_m3 154 rfl) rfl
theorem q753 : (Jvm.Cond.methodLink "TollOnVowels" (406 : Nat) ({ cls := "TollOnVowels", name := "doesBy", desc := "(IIII)I" } : Jvm.MethodName)) ∈ lw_all := lw_g (lw_at lw_m3 158 rfl) rfl
theorem q754 : (Jvm.Cond.privateMethod ({ cls := "TollOnVowels", name := "doesBy", desc := "(IIII)I" } : Jvm.MethodName)) ∈ lw_tbl := lw_at lw_m3 159 rfl
theorem q755 : (Jvm.Cond.instanceMethod ({ cls := "TollOnVowels", name := "doesBy", desc := "(IIII)I" } : Jvm.MethodName)) ∈ lw_all := lw_g (lw_at lw_m3 160 rfl) rfl
theorem q756 : (Jvm.Cond.code ({ cls := "TollOnVowels", name := "doesBy", desc := "(IIII)I" } : Jvm.MethodName) prog_1_method_48_code (7 : Nat) (Option.some Jvm.ClassFile.FieldType.int)) ∈ lw_all := lw_g (lw_at lw_m3 161 rfl) rfl
theorem q757 : (Jvm.Cond.methodLink "TollOnVowels" (343 : Nat) ({ cls := "TollOnVowels", name := "has", desc := "(II)Z" } : Jvm.MethodName)) ∈ lw_all := lw_g (lw_at lw_m3 162 rfl) rfl
theorem q758 : (Jvm.Cond.static ({ cls := "TollOnVowels", name := "has", desc := "(II)Z" } : Jvm.MethodName)) ∈ lw_all := lw_g (lw_at lw_m3 163 rfl) rfl
theorem q759 : (Jvm.Cond.code ({ cls := "TollOnVowels", name := "has", desc := "(II)Z" } : Jvm.MethodName) prog_1_method_3_code (2 : Nat) (Option.some Jvm.ClassFile.FieldType.boolean)) ∈ lw_all := lw_g (lw_at lw_m3 164 rfl) rfl
theorem q760 : (Jvm.Cond.methodLink "TollOnVowels" (396 : Nat) ({ cls := "TollOnVowels", name := "means", desc := "(II)Z" } : Jvm.MethodName)) ∈ lw_all := lw_g (lw_at lw_m3 165 rfl) rfl
theorem q761 : (Jvm.Cond.privateMethod ({ cls := "TollOnVowels", name := "means", desc := "(II)Z" } : Jvm.MethodName)) ∈ lw_tbl := lw_at lw_m3 166 rfl
theorem q762 : (Jvm.Cond.instanceMethod ({ cls := "TollOnVowels", name := "means", desc := "(II)Z" } : Jvm.MethodName)) ∈ lw_all := lw_g (lw_at lw_m3 167 rfl) rfl
theorem q763 : (Jvm.Cond.code ({ cls := "TollOnVowels", name := "means", desc := "(II)Z" } : Jvm.MethodName) prog_1_method_8_code (3 : Nat) (Option.some Jvm.ClassFile.FieldType.boolean)) ∈ lw_all := lw_g (lw_at lw_m3 168 rfl) rfl
theorem q765 : (Jvm.Cond.instanceMethod ({ cls := "TollOnVowels", name := "alms", desc := "(III)I" } : Jvm.MethodName)) ∈ lw_all := lw_g (lw_at lw_m3 170 rfl) rfl
theorem q766 : (Jvm.Cond.selects "TollOnVowels" ({ cls := "TollOnVowels", name := "alms", desc := "(III)I" } : Jvm.MethodName) ({ cls := "TollOnVowels", name := "alms", desc := "(III)I" } : Jvm.MethodName)) ∈ lw_all := lw_g (lw_at lw_m3 171 rfl) rfl
theorem q767 : (Jvm.Cond.code ({ cls := "TollOnVowels", name := "alms", desc := "(III)I" } : Jvm.MethodName) prog_1_method_54_code (4 : Nat) (Option.some Jvm.ClassFile.FieldType.int)) ∈ lw_all := lw_g (lw_at lw_m3 172 rfl) rfl
theorem q768 : (Jvm.Cond.methodLink "TollOnVowels" (427 : Nat) ({ cls := "TollOnVowels", name := "givesAlms", desc := "(III)I" } : Jvm.MethodName)) ∈ lw_all := lw_g (lw_at lw_m3 173 rfl) rfl
theorem q769 : (Jvm.Cond.privateMethod ({ cls := "TollOnVowels", name := "givesAlms", desc := "(III)I" } : Jvm.MethodName)) ∈ lw_tbl := lw_at lw_m3 174 rfl
theorem q770 : (Jvm.Cond.instanceMethod ({ cls := "TollOnVowels", name := "givesAlms", desc := "(III)I" } : Jvm.MethodName)) ∈ lw_all := lw_g (lw_at lw_m3 175 rfl) rfl
theorem q771 : (Jvm.Cond.code ({ cls := "TollOnVowels", name := "givesAlms", desc := "(III)I" } : Jvm.MethodName) prog_1_method_50_code (4 : Nat) (Option.some Jvm.ClassFile.FieldType.int)) ∈ lw_all := lw_g (lw_at lw_m3 176 rfl) rfl
theorem q772 : (Jvm.Cond.constantLong "TollOnVowels" (413 : Nat) (9999 : Int64)) ∈ lw_all := lw_g (lw_at lw_m3 177 rfl) rfl
theorem q774 : (Jvm.Cond.instanceMethod ({ cls := "TollOnVowels", name := "journey", desc := "()I" } : Jvm.MethodName)) ∈ lw_all := lw_g (lw_at lw_m3 179 rfl) rfl
theorem q775 : (Jvm.Cond.selects "TollOnVowels" ({ cls := "TollOnVowels", name := "journey", desc := "()I" } : Jvm.MethodName) ({ cls := "TollOnVowels", name := "journey", desc := "()I" } : Jvm.MethodName)) ∈ lw_all := lw_g (lw_at lw_m3 180 rfl) rfl
theorem q776 : (Jvm.Cond.code ({ cls := "TollOnVowels", name := "journey", desc := "()I" } : Jvm.MethodName) prog_1_method_59_code (6 : Nat) (Option.some Jvm.ClassFile.FieldType.int)) ∈ lw_all := lw_g (lw_at lw_m3 181 rfl) rfl
theorem q777 : (Jvm.Cond.methodLink "TollOnVowels" (448 : Nat) ({ cls := "TollOnVowels", name := "readsAct", desc := "()Z" } : Jvm.MethodName)) ∈ lw_all := lw_g (lw_at lw_m3 182 rfl) rfl
theorem q778 : (Jvm.Cond.privateMethod ({ cls := "TollOnVowels", name := "readsAct", desc := "()Z" } : Jvm.MethodName)) ∈ lw_tbl := lw_at lw_m3 183 rfl
theorem q779 : (Jvm.Cond.instanceMethod ({ cls := "TollOnVowels", name := "readsAct", desc := "()Z" } : Jvm.MethodName)) ∈ lw_all := lw_g (lw_at lw_m3 184 rfl) rfl
theorem q780 : (Jvm.Cond.code ({ cls := "TollOnVowels", name := "readsAct", desc := "()Z" } : Jvm.MethodName) prog_1_method_55_code (2 : Nat) (Option.some Jvm.ClassFile.FieldType.boolean)) ∈ lw_all := lw_g (lw_at lw_m3 185 rfl) rfl
theorem q781 : (Jvm.Cond.stringRef "TollOnVowels" (432 : Nat) "abcd") ∈ lw_tbl := lw_at lw_m3 186 rfl
theorem q782 : (Jvm.Cond.stringRef "TollOnVowels" (434 : Nat) "<>!0123456789") ∈ lw_tbl := lw_at lw_m3 187 rfl
theorem q783 : (Jvm.Cond.methodLink "TollOnVowels" (451 : Nat) ({ cls := "TollOnVowels", name := "does", desc := "(I)Z" } : Jvm.MethodName)) ∈ lw_all := lw_g (lw_at lw_m3 188 rfl) rfl
theorem q784 : (Jvm.Cond.privateMethod ({ cls := "TollOnVowels", name := "does", desc := "(I)Z" } : Jvm.MethodName)) ∈ lw_tbl := lw_at lw_m3 189 rfl
theorem q785 : (Jvm.Cond.instanceMethod ({ cls := "TollOnVowels", name := "does", desc := "(I)Z" } : Jvm.MethodName)) ∈ lw_all := lw_g (lw_at lw_m3 190 rfl) rfl
theorem q786 : (Jvm.Cond.code ({ cls := "TollOnVowels", name := "does", desc := "(I)Z" } : Jvm.MethodName) prog_1_method_58_code (4 : Nat) (Option.some Jvm.ClassFile.FieldType.boolean)) ∈ lw_all := lw_g (lw_at lw_m3 191 rfl) rfl
theorem q787 : (Jvm.Cond.methodLink "TollOnVowels" (442 : Nat) ({ cls := "TollOnVowels", name := "wordFor", desc := "(I)I" } : Jvm.MethodName)) ∈ lw_all := lw_g (lw_at lw_m3 192 rfl) rfl
theorem q788 : (Jvm.Cond.privateMethod ({ cls := "TollOnVowels", name := "wordFor", desc := "(I)I" } : Jvm.MethodName)) ∈ lw_tbl := lw_at lw_m3 193 rfl
theorem q789 : (Jvm.Cond.instanceMethod ({ cls := "TollOnVowels", name := "wordFor", desc := "(I)I" } : Jvm.MethodName)) ∈ lw_all := lw_g (lw_at lw_m3 194 rfl) rfl
theorem q790 : (Jvm.Cond.code ({ cls := "TollOnVowels", name := "wordFor", desc := "(I)I" } : Jvm.MethodName) prog_1_method_57_code (3 : Nat) (Option.some Jvm.ClassFile.FieldType.int)) ∈ lw_all := lw_g (lw_at lw_m3 195 rfl) rfl
theorem q791 : (Jvm.Cond.methodLink "TollOnVowels" (365 : Nat) ({ cls := "TollOnVowels", name := "errandsOf", desc := "(I)I" } : Jvm.MethodName)) ∈ lw_all := lw_g (lw_at lw_m3 196 rfl) rfl
theorem q792 : (Jvm.Cond.privateMethod ({ cls := "TollOnVowels", name := "errandsOf", desc := "(I)I" } : Jvm.MethodName)) ∈ lw_tbl := lw_at lw_m3 197 rfl
theorem q793 : (Jvm.Cond.instanceMethod ({ cls := "TollOnVowels", name := "errandsOf", desc := "(I)I" } : Jvm.MethodName)) ∈ lw_all := lw_g (lw_at lw_m3 198 rfl) rfl
theorem q794 : (Jvm.Cond.code ({ cls := "TollOnVowels", name := "errandsOf", desc := "(I)I" } : Jvm.MethodName) prog_1_method_37_code (4 : Nat) (Option.some Jvm.ClassFile.FieldType.int)) ∈ lw_all := lw_g (lw_at lw_m3 199 rfl) rfl
theorem q795 : (Jvm.Cond.methodLink "TollOnVowels" (439 : Nat) ({ cls := "TollOnVowels", name := "cheapestFor", desc := "(III)I" } : Jvm.MethodName)) ∈ lw_all := lw_g (lw_at lw_m3 200 rfl) rfl
theorem q796 : (Jvm.Cond.privateMethod ({ cls := "TollOnVowels", name := "cheapestFor", desc := "(III)I" } : Jvm.MethodName)) ∈ lw_tbl := lw_at lw_m3 201 rfl
theorem q797 : (Jvm.Cond.instanceMethod ({ cls := "TollOnVowels", name := "cheapestFor", desc := "(III)I" } : Jvm.MethodName)) ∈ lw_all := lw_g (lw_at lw_m3 202 rfl) rfl
theorem q798 : (Jvm.Cond.code ({ cls := "TollOnVowels", name := "cheapestFor", desc := "(III)I" } : Jvm.MethodName) prog_1_method_61_code (8 : Nat) (Option.some Jvm.ClassFile.FieldType.int)) ∈ lw_all := lw_g (lw_at lw_m3 203 rfl) rfl
theorem q799 : (Jvm.Cond.constant "TollOnVowels" (454 : Nat) (1000000000 : Int32)) ∈ lw_all := lw_g (lw_at lw_m3 204 rfl) rfl
theorem q800 : (Jvm.Cond.methodLink "TollOnVowels" (455 : Nat) ({ cls := "TollOnVowels", name := "tollNow", desc := "(II)I" } : Jvm.MethodName)) ∈ lw_all := lw_g (lw_at lw_m3 205 rfl) rfl
theorem q801 : (Jvm.Cond.privateMethod ({ cls := "TollOnVowels", name := "tollNow", desc := "(II)I" } : Jvm.MethodName)) ∈ lw_tbl := lw_at lw_m3 206 rfl
theorem q802 : (Jvm.Cond.instanceMethod ({ cls := "TollOnVowels", name := "tollNow", desc := "(II)I" } : Jvm.MethodName)) ∈ lw_all := lw_g (lw_at lw_m3 207 rfl) rfl
theorem q803 : (Jvm.Cond.code ({ cls := "TollOnVowels", name := "tollNow", desc := "(II)I" } : Jvm.MethodName) prog_1_method_60_code (3 : Nat) (Option.some Jvm.ClassFile.FieldType.int)) ∈ lw_all := lw_g (lw_at lw_m3 208 rfl) rfl
theorem q804 : (Jvm.Cond.methodLink "TollOnVowels" (356 : Nat) ({ cls := "TollOnVowels", name := "vowelsOf", desc := "(I)I" } : Jvm.MethodName)) ∈ lw_all := lw_g (lw_at lw_m3 209 rfl) rfl
theorem q805 : (Jvm.Cond.privateMethod ({ cls := "TollOnVowels", name := "vowelsOf", desc := "(I)I" } : Jvm.MethodName)) ∈ lw_tbl := lw_at lw_m3 210 rfl
theorem q806 : (Jvm.Cond.instanceMethod ({ cls := "TollOnVowels", name := "vowelsOf", desc := "(I)I" } : Jvm.MethodName)) ∈ lw_all := lw_g (lw_at lw_m3 211 rfl) rfl
theorem q807 : (Jvm.Cond.code ({ cls := "TollOnVowels", name := "vowelsOf", desc := "(I)I" } : Jvm.MethodName) prog_1_method_10_code (4 : Nat) (Option.some Jvm.ClassFile.FieldType.int)) ∈ lw_all := lw_g (lw_at lw_m3 212 rfl) rfl
theorem q808 : (Jvm.Cond.methodLink "TollOnVowels" (445 : Nat) ({ cls := "TollOnVowels", name := "paid", desc := "(I)Z" } : Jvm.MethodName)) ∈ lw_all := lw_g (lw_at lw_m3 213 rfl) rfl
theorem q809 : (Jvm.Cond.privateMethod ({ cls := "TollOnVowels", name := "paid", desc := "(I)Z" } : Jvm.MethodName)) ∈ lw_tbl := lw_at lw_m3 214 rfl
theorem q810 : (Jvm.Cond.instanceMethod ({ cls := "TollOnVowels", name := "paid", desc := "(I)Z" } : Jvm.MethodName)) ∈ lw_all := lw_g (lw_at lw_m3 215 rfl) rfl
theorem q811 : (Jvm.Cond.code ({ cls := "TollOnVowels", name := "paid", desc := "(I)Z" } : Jvm.MethodName) prog_1_method_56_code (2 : Nat) (Option.some Jvm.ClassFile.FieldType.boolean)) ∈ lw_all := lw_g (lw_at lw_m3 216 rfl) rfl
theorem q813 : (Jvm.Cond.instanceMethod ({ cls := "TollOnVowels", name := "cheapest", desc := "(II)I" } : Jvm.MethodName)) ∈ lw_all := lw_g (lw_at lw_m3 218 rfl) rfl
theorem q814 : (Jvm.Cond.selects "TollOnVowels" ({ cls := "TollOnVowels", name := "cheapest", desc := "(II)I" } : Jvm.MethodName) ({ cls := "TollOnVowels", name := "cheapest", desc := "(II)I" } : Jvm.MethodName)) ∈ lw_all := lw_g (lw_at lw_m3 219 rfl) rfl
theorem q815 : (Jvm.Cond.code ({ cls := "TollOnVowels", name := "cheapest", desc := "(II)I" } : Jvm.MethodName) prog_1_method_62_code (6 : Nat) (Option.some Jvm.ClassFile.FieldType.int)) ∈ lw_all := lw_g (lw_at lw_m3 220 rfl) rfl
theorem q816 : (Jvm.Cond.constantLong "TollOnVowels" (458 : Nat) (9 : Int64)) ∈ lw_all := lw_g (lw_at lw_m3 221 rfl) rfl
theorem q818 : (Jvm.Cond.instanceMethod ({ cls := "TollOnVowels", name := "sentence", desc := "(I)I" } : Jvm.MethodName)) ∈ lw_all := lw_g (lw_at lw_m3 223 rfl) rfl
theorem q819 : (Jvm.Cond.selects "TollOnVowels" ({ cls := "TollOnVowels", name := "sentence", desc := "(I)I" } : Jvm.MethodName) ({ cls := "TollOnVowels", name := "sentence", desc := "(I)I" } : Jvm.MethodName)) ∈ lw_all := lw_g (lw_at lw_m3 224 rfl) rfl
theorem q820 : (Jvm.Cond.code ({ cls := "TollOnVowels", name := "sentence", desc := "(I)I" } : Jvm.MethodName) prog_1_method_65_code (4 : Nat) (Option.some Jvm.ClassFile.FieldType.int)) ∈ lw_all := lw_g (lw_at lw_m3 225 rfl) rfl
theorem q821 : (Jvm.Cond.methodLink "TollOnVowels" (466 : Nat) ({ cls := "TollOnVowels", name := "costFrom", desc := "(III)I" } : Jvm.MethodName)) ∈ lw_all := lw_g (lw_at lw_m3 226 rfl) rfl
theorem q822 : (Jvm.Cond.privateMethod ({ cls := "TollOnVowels", name := "costFrom", desc := "(III)I" } : Jvm.MethodName)) ∈ lw_tbl := lw_at lw_m3 227 rfl
theorem q823 : (Jvm.Cond.instanceMethod ({ cls := "TollOnVowels", name := "costFrom", desc := "(III)I" } : Jvm.MethodName)) ∈ lw_all := lw_g (lw_at lw_m3 228 rfl) rfl
theorem q824 : (Jvm.Cond.code ({ cls := "TollOnVowels", name := "costFrom", desc := "(III)I" } : Jvm.MethodName) prog_1_method_64_code (5 : Nat) (Option.some Jvm.ClassFile.FieldType.int)) ∈ lw_all := lw_g (lw_at lw_m3 229 rfl) rfl
theorem q825 : (Jvm.Cond.methodLink "TollOnVowels" (463 : Nat) ({ cls := "TollOnVowels", name := "tellsFrom", desc := "(II)I" } : Jvm.MethodName)) ∈ lw_all := lw_g (lw_at lw_m3 230 rfl) rfl
theorem q826 : (Jvm.Cond.privateMethod ({ cls := "TollOnVowels", name := "tellsFrom", desc := "(II)I" } : Jvm.MethodName)) ∈ lw_tbl := lw_at lw_m3 231 rfl
theorem q827 : (Jvm.Cond.instanceMethod ({ cls := "TollOnVowels", name := "tellsFrom", desc := "(II)I" } : Jvm.MethodName)) ∈ lw_all := lw_g (lw_at lw_m3 232 rfl) rfl
theorem q828 : (Jvm.Cond.code ({ cls := "TollOnVowels", name := "tellsFrom", desc := "(II)I" } : Jvm.MethodName) prog_1_method_63_code (3 : Nat) (Option.some Jvm.ClassFile.FieldType.int)) ∈ lw_all := lw_g (lw_at lw_m3 233 rfl) rfl
theorem q830 : (Jvm.Cond.instanceMethod ({ cls := "TollOnVowels", name := "when", desc := "(II)I" } : Jvm.MethodName)) ∈ lw_all := lw_g (lw_at lw_m3 235 rfl) rfl
theorem q831 : (Jvm.Cond.selects "TollOnVowels" ({ cls := "TollOnVowels", name := "when", desc := "(II)I" } : Jvm.MethodName) ({ cls := "TollOnVowels", name := "when", desc := "(II)I" } : Jvm.MethodName)) ∈ lw_all := lw_g (lw_at lw_m3 236 rfl) rfl
theorem q832 : (Jvm.Cond.code ({ cls := "TollOnVowels", name := "when", desc := "(II)I" } : Jvm.MethodName) prog_1_method_66_code (5 : Nat) (Option.some Jvm.ClassFile.FieldType.int)) ∈ lw_all := lw_g (lw_at lw_m3 237 rfl) rfl
theorem q834 : (Jvm.Cond.instanceMethod ({ cls := "TollOnVowels", name := "shortest", desc := "(III)I" } : Jvm.MethodName)) ∈ lw_all := lw_g (lw_at lw_m3 239 rfl) rfl
theorem q835 : (Jvm.Cond.selects "TollOnVowels" ({ cls := "TollOnVowels", name := "shortest", desc := "(III)I" } : Jvm.MethodName) ({ cls := "TollOnVowels", name := "shortest", desc := "(III)I" } : Jvm.MethodName)) ∈ lw_all := lw_g (lw_at lw_m4 0 rfl) rfl
theorem q836 : (Jvm.Cond.code ({ cls := "TollOnVowels", name := "shortest", desc := "(III)I" } : Jvm.MethodName) prog_1_method_67_code (8 : Nat) (Option.some Jvm.ClassFile.FieldType.int)) ∈ lw_all := lw_g (lw_at lw_m4 1 rfl) rfl
theorem q838 : (Jvm.Cond.instanceMethod ({ cls := "TollOnVowels", name := "differ", desc := "(II)I" } : Jvm.MethodName)) ∈ lw_all := lw_g (lw_at lw_m4 3 rfl) rfl
theorem q839 : (Jvm.Cond.selects "TollOnVowels" ({ cls := "TollOnVowels", name := "differ", desc := "(II)I" } : Jvm.MethodName) ({ cls := "TollOnVowels", name := "differ", desc := "(II)I" } : Jvm.MethodName)) ∈ lw_all := lw_g (lw_at lw_m4 4 rfl) rfl
theorem q840 : (Jvm.Cond.code ({ cls := "TollOnVowels", name := "differ", desc := "(II)I" } : Jvm.MethodName) prog_1_method_70_code (3 : Nat) (Option.some Jvm.ClassFile.FieldType.int)) ∈ lw_all := lw_g (lw_at lw_m4 5 rfl) rfl
theorem q841 : (Jvm.Cond.methodLink "TollOnVowels" (473 : Nat) ({ cls := "TollOnVowels", name := "changesOf", desc := "(IIZ)I" } : Jvm.MethodName)) ∈ lw_all := lw_g (lw_at lw_m4 6 rfl) rfl
theorem q842 : (Jvm.Cond.privateMethod ({ cls := "TollOnVowels", name := "changesOf", desc := "(IIZ)I" } : Jvm.MethodName)) ∈ lw_tbl := lw_at lw_m4 7 rfl
theorem q843 : (Jvm.Cond.instanceMethod ({ cls := "TollOnVowels", name := "changesOf", desc := "(IIZ)I" } : Jvm.MethodName)) ∈ lw_all := lw_g (lw_at lw_m4 8 rfl) rfl
theorem q844 : (Jvm.Cond.code ({ cls := "TollOnVowels", name := "changesOf", desc := "(IIZ)I" } : Jvm.MethodName) prog_1_method_69_code (11 : Nat) (Option.some Jvm.ClassFile.FieldType.int)) ∈ lw_all := lw_g (lw_at lw_m4 9 rfl) rfl
theorem q845 : (Jvm.Cond.methodLink "TollOnVowels" (469 : Nat) ({ cls := "TollOnVowels", name := "laysRow", desc := "(I[IZ)I" } : Jvm.MethodName)) ∈ lw_all := lw_g (lw_at lw_m4 10 rfl) rfl
theorem q846 : (Jvm.Cond.privateMethod ({ cls := "TollOnVowels", name := "laysRow", desc := "(I[IZ)I" } : Jvm.MethodName)) ∈ lw_tbl := lw_at lw_m4 11 rfl
theorem q847 : (Jvm.Cond.instanceMethod ({ cls := "TollOnVowels", name := "laysRow", desc := "(I[IZ)I" } : Jvm.MethodName)) ∈ lw_all := lw_g (lw_at lw_m4 12 rfl) rfl
theorem q848 : (Jvm.Cond.code ({ cls := "TollOnVowels", name := "laysRow", desc := "(I[IZ)I" } : Jvm.MethodName) prog_1_method_68_code (6 : Nat) (Option.some Jvm.ClassFile.FieldType.int)) ∈ lw_all := lw_g (lw_at lw_m4 13 rfl) rfl
theorem q850 : (Jvm.Cond.instanceMethod ({ cls := "TollOnVowels", name := "near", desc := "(I)I" } : Jvm.MethodName)) ∈ lw_all := lw_g (lw_at lw_m4 15 rfl) rfl
theorem q851 : (Jvm.Cond.selects "TollOnVowels" ({ cls := "TollOnVowels", name := "near", desc := "(I)I" } : Jvm.MethodName) ({ cls := "TollOnVowels", name := "near", desc := "(I)I" } : Jvm.MethodName)) ∈ lw_all := lw_g (lw_at lw_m4 16 rfl) rfl
theorem q852 : (Jvm.Cond.code ({ cls := "TollOnVowels", name := "near", desc := "(I)I" } : Jvm.MethodName) prog_1_method_71_code (6 : Nat) (Option.some Jvm.ClassFile.FieldType.int)) ∈ lw_all := lw_g (lw_at lw_m4 17 rfl) rfl
theorem q854 : (Jvm.Cond.instanceMethod ({ cls := "TollOnVowels", name := "heard", desc := "(III)I" } : Jvm.MethodName)) ∈ lw_all := lw_g (lw_at lw_m4 19 rfl) rfl
theorem q855 : (Jvm.Cond.selects "TollOnVowels" ({ cls := "TollOnVowels", name := "heard", desc := "(III)I" } : Jvm.MethodName) ({ cls := "TollOnVowels", name := "heard", desc := "(III)I" } : Jvm.MethodName)) ∈ lw_all := lw_g (lw_at lw_m4 20 rfl) rfl
theorem q856 : (Jvm.Cond.code ({ cls := "TollOnVowels", name := "heard", desc := "(III)I" } : Jvm.MethodName) prog_1_method_72_code (15 : Nat) (Option.some Jvm.ClassFile.FieldType.int)) ∈ lw_all := lw_g (lw_at lw_m4 21 rfl) rfl
theorem q857 : (Jvm.Cond.constantLong "TollOnVowels" (477 : Nat) (10 : Int64)) ∈ lw_all := lw_g (lw_at lw_m4 22 rfl) rfl
theorem q858 : (Jvm.Cond.constantLong "TollOnVowels" (479 : Nat) (2 : Int64)) ∈ lw_all := lw_g (lw_at lw_m4 23 rfl) rfl
theorem q859 : (Jvm.Cond.methodLink "TollOnVowels" (137 : Nat) ({ cls := "TollOnVowels", name := "common", desc := "(JJ)J" } : Jvm.MethodName)) ∈ lw_all := lw_g (lw_at lw_m4 24 rfl) rfl
theorem q860 : (Jvm.Cond.static ({ cls := "TollOnVowels", name := "common", desc := "(JJ)J" } : Jvm.MethodName)) ∈ lw_all := lw_g (lw_at lw_m4 25 rfl) rfl
theorem q861 : (Jvm.Cond.code ({ cls := "TollOnVowels", name := "common", desc := "(JJ)J" } : Jvm.MethodName) prog_1_method_4_code (4 : Nat) (Option.some Jvm.ClassFile.FieldType.long)) ∈ lw_all := lw_g (lw_at lw_m4 26 rfl) rfl
theorem q863 : (Jvm.Cond.instanceMethod ({ cls := "TollOnVowels", name := "code", desc := "(I)I" } : Jvm.MethodName)) ∈ lw_all := lw_g (lw_at lw_m4 28 rfl) rfl
theorem q864 : (Jvm.Cond.selects "TollOnVowels" ({ cls := "TollOnVowels", name := "code", desc := "(I)I" } : Jvm.MethodName) ({ cls := "TollOnVowels", name := "code", desc := "(I)I" } : Jvm.MethodName)) ∈ lw_all := lw_g (lw_at lw_m4 29 rfl) rfl
theorem q865 : (Jvm.Cond.code ({ cls := "TollOnVowels", name := "code", desc := "(I)I" } : Jvm.MethodName) prog_1_method_75_code (5 : Nat) (Option.some Jvm.ClassFile.FieldType.int)) ∈ lw_all := lw_g (lw_at lw_m4 30 rfl) rfl
theorem q866 : (Jvm.Cond.methodLink "TollOnVowels" (481 : Nat) ({ cls := "java/lang/Integer", name := "bitCount", desc := "(I)I" } : Jvm.MethodName)) ∈ lw_all := lw_g (lw_at lw_m4 31 rfl) rfl
theorem q872 : (Jvm.Cond.methodLink "TollOnVowels" (486 : Nat) ({ cls := "TollOnVowels", name := "areApart", desc := "(II)Z" } : Jvm.MethodName)) ∈ lw_all := lw_g (lw_at lw_m4 37 rfl) rfl
theorem q873 : (Jvm.Cond.privateMethod ({ cls := "TollOnVowels", name := "areApart", desc := "(II)Z" } : Jvm.MethodName)) ∈ lw_tbl := lw_at lw_m4 38 rfl
theorem q874 : (Jvm.Cond.instanceMethod ({ cls := "TollOnVowels", name := "areApart", desc := "(II)Z" } : Jvm.MethodName)) ∈ lw_all := lw_g (lw_at lw_m4 39 rfl) rfl
theorem q875 : (Jvm.Cond.code ({ cls := "TollOnVowels", name := "areApart", desc := "(II)Z" } : Jvm.MethodName) prog_1_method_73_code (6 : Nat) (Option.some Jvm.ClassFile.FieldType.boolean)) ∈ lw_all := lw_g (lw_at lw_m4 40 rfl) rfl
theorem q876 : (Jvm.Cond.methodLink "TollOnVowels" (489 : Nat) ({ cls := "TollOnVowels", name := "tollOfAll", desc := "(I)I" } : Jvm.MethodName)) ∈ lw_all := lw_g (lw_at lw_m4 41 rfl) rfl
theorem q877 : (Jvm.Cond.privateMethod ({ cls := "TollOnVowels", name := "tollOfAll", desc := "(I)I" } : Jvm.MethodName)) ∈ lw_tbl := lw_at lw_m4 42 rfl
theorem q878 : (Jvm.Cond.instanceMethod ({ cls := "TollOnVowels", name := "tollOfAll", desc := "(I)I" } : Jvm.MethodName)) ∈ lw_all := lw_g (lw_at lw_m4 43 rfl) rfl
theorem q879 : (Jvm.Cond.code ({ cls := "TollOnVowels", name := "tollOfAll", desc := "(I)I" } : Jvm.MethodName) prog_1_method_74_code (4 : Nat) (Option.some Jvm.ClassFile.FieldType.int)) ∈ lw_all := lw_g (lw_at lw_m4 44 rfl) rfl
theorem q881 : (Jvm.Cond.instanceMethod ({ cls := "TollOnVowels", name := "trip", desc := "(II)I" } : Jvm.MethodName)) ∈ lw_all := lw_g (lw_at lw_m4 46 rfl) rfl
theorem q882 : (Jvm.Cond.selects "TollOnVowels" ({ cls := "TollOnVowels", name := "trip", desc := "(II)I" } : Jvm.MethodName) ({ cls := "TollOnVowels", name := "trip", desc := "(II)I" } : Jvm.MethodName)) ∈ lw_all := lw_g (lw_at lw_m4 47 rfl) rfl
theorem q883 : (Jvm.Cond.code ({ cls := "TollOnVowels", name := "trip", desc := "(II)I" } : Jvm.MethodName) prog_1_method_82_code (6 : Nat) (Option.some Jvm.ClassFile.FieldType.int)) ∈ lw_all := lw_g (lw_at lw_m4 48 rfl) rfl
theorem q884 : (Jvm.Cond.constantLong "TollOnVowels" (505 : Nat) (12 : Int64)) ∈ lw_all := lw_g (lw_at lw_m4 49 rfl) rfl
theorem q885 : (Jvm.Cond.methodLink "TollOnVowels" (507 : Nat) ({ cls := "TollOnVowels", name := "laysTrip", desc := "(II)V" } : Jvm.MethodName)) ∈ lw_all := lw_g (lw_at lw_m4 50 rfl) rfl
theorem q886 : (Jvm.Cond.privateMethod ({ cls := "TollOnVowels", name := "laysTrip", desc := "(II)V" } : Jvm.MethodName)) ∈ lw_tbl := lw_at lw_m4 51 rfl
theorem q887 : (Jvm.Cond.instanceMethod ({ cls := "TollOnVowels", name := "laysTrip", desc := "(II)V" } : Jvm.MethodName)) ∈ lw_all := lw_g (lw_at lw_m4 52 rfl) rfl
theorem q888 : (Jvm.Cond.code ({ cls := "TollOnVowels", name := "laysTrip", desc := "(II)V" } : Jvm.MethodName) prog_1_method_80_code (5 : Nat) (Option.none : Option Jvm.ClassFile.FieldType)) ∈ lw_all := lw_g (lw_at lw_m4 53 rfl) rfl
theorem q889 : (Jvm.Cond.methodLink "TollOnVowels" (492 : Nat) ({ cls := "TollOnVowels", name := "spot", desc := "(III)I" } : Jvm.MethodName)) ∈ lw_all := lw_g (lw_at lw_m4 54 rfl) rfl
theorem q890 : (Jvm.Cond.static ({ cls := "TollOnVowels", name := "spot", desc := "(III)I" } : Jvm.MethodName)) ∈ lw_all := lw_g (lw_at lw_m4 55 rfl) rfl
theorem q891 : (Jvm.Cond.code ({ cls := "TollOnVowels", name := "spot", desc := "(III)I" } : Jvm.MethodName) prog_1_method_76_code (3 : Nat) (Option.some Jvm.ClassFile.FieldType.int)) ∈ lw_all := lw_g (lw_at lw_m4 56 rfl) rfl
theorem q892 : (Jvm.Cond.methodLink "TollOnVowels" (498 : Nat) ({ cls := "TollOnVowels", name := "laysSayings", desc := "(III)V" } : Jvm.MethodName)) ∈ lw_all := lw_g (lw_at lw_m4 57 rfl) rfl
theorem q893 : (Jvm.Cond.privateMethod ({ cls := "TollOnVowels", name := "laysSayings", desc := "(III)V" } : Jvm.MethodName)) ∈ lw_tbl := lw_at lw_m4 58 rfl
theorem q894 : (Jvm.Cond.instanceMethod ({ cls := "TollOnVowels", name := "laysSayings", desc := "(III)V" } : Jvm.MethodName)) ∈ lw_all := lw_g (lw_at lw_m4 59 rfl) rfl
theorem q895 : (Jvm.Cond.code ({ cls := "TollOnVowels", name := "laysSayings", desc := "(III)V" } : Jvm.MethodName) prog_1_method_78_code (7 : Nat) (Option.none : Option Jvm.ClassFile.FieldType)) ∈ lw_all := lw_g (lw_at lw_m4 60 rfl) rfl
theorem q896 : (Jvm.Cond.methodLink "TollOnVowels" (495 : Nat) ({ cls := "TollOnVowels", name := "lessens", desc := "(II)V" } : Jvm.MethodName)) ∈ lw_all := lw_g (lw_at lw_m4 61 rfl) rfl
theorem q897 : (Jvm.Cond.privateMethod ({ cls := "TollOnVowels", name := "lessens", desc := "(II)V" } : Jvm.MethodName)) ∈ lw_tbl := lw_at lw_m4 62 rfl
theorem q898 : (Jvm.Cond.instanceMethod ({ cls := "TollOnVowels", name := "lessens", desc := "(II)V" } : Jvm.MethodName)) ∈ lw_all := lw_g (lw_at lw_m4 63 rfl) rfl
theorem q899 : (Jvm.Cond.code ({ cls := "TollOnVowels", name := "lessens", desc := "(II)V" } : Jvm.MethodName) prog_1_method_77_code (3 : Nat) (Option.none : Option Jvm.ClassFile.FieldType)) ∈ lw_all := lw_g (lw_at lw_m4 64 rfl) rfl
theorem q900 : (Jvm.Cond.methodLink "TollOnVowels" (502 : Nat) ({ cls := "TollOnVowels", name := "goesOn", desc := "(II)V" } : Jvm.MethodName)) ∈ lw_all := lw_g (lw_at lw_m4 65 rfl) rfl
theorem q901 : (Jvm.Cond.privateMethod ({ cls := "TollOnVowels", name := "goesOn", desc := "(II)V" } : Jvm.MethodName)) ∈ lw_tbl := lw_at lw_m4 66 rfl
theorem q902 : (Jvm.Cond.instanceMethod ({ cls := "TollOnVowels", name := "goesOn", desc := "(II)V" } : Jvm.MethodName)) ∈ lw_all := lw_g (lw_at lw_m4 67 rfl) rfl
theorem q903 : (Jvm.Cond.code ({ cls := "TollOnVowels", name := "goesOn", desc := "(II)V" } : Jvm.MethodName) prog_1_method_79_code (5 : Nat) (Option.none : Option Jvm.ClassFile.FieldType)) ∈ lw_all := lw_g (lw_at lw_m4 68 rfl) rfl
theorem q904 : (Jvm.Cond.methodLink "TollOnVowels" (510 : Nat) ({ cls := "TollOnVowels", name := "doneIn", desc := "(II)I" } : Jvm.MethodName)) ∈ lw_all := lw_g (lw_at lw_m4 69 rfl) rfl
theorem q905 : (Jvm.Cond.privateMethod ({ cls := "TollOnVowels", name := "doneIn", desc := "(II)I" } : Jvm.MethodName)) ∈ lw_tbl := lw_at lw_m4 70 rfl
theorem q906 : (Jvm.Cond.instanceMethod ({ cls := "TollOnVowels", name := "doneIn", desc := "(II)I" } : Jvm.MethodName)) ∈ lw_all := lw_g (lw_at lw_m4 71 rfl) rfl
theorem q907 : (Jvm.Cond.code ({ cls := "TollOnVowels", name := "doneIn", desc := "(II)I" } : Jvm.MethodName) prog_1_method_81_code (5 : Nat) (Option.some Jvm.ClassFile.FieldType.int)) ∈ lw_all := lw_g (lw_at lw_m4 72 rfl) rfl
theorem q909 : (Jvm.Cond.instanceMethod ({ cls := "TollOnVowels", name := "haste", desc := "(I)I" } : Jvm.MethodName)) ∈ lw_all := lw_g (lw_at lw_m4 74 rfl) rfl
theorem q910 : (Jvm.Cond.selects "TollOnVowels" ({ cls := "TollOnVowels", name := "haste", desc := "(I)I" } : Jvm.MethodName) ({ cls := "TollOnVowels", name := "haste", desc := "(I)I" } : Jvm.MethodName)) ∈ lw_all := lw_g (lw_at lw_m4 75 rfl) rfl
theorem q911 : (Jvm.Cond.code ({ cls := "TollOnVowels", name := "haste", desc := "(I)I" } : Jvm.MethodName) prog_1_method_83_code (4 : Nat) (Option.some Jvm.ClassFile.FieldType.int)) ∈ lw_all := lw_g (lw_at lw_m4 76 rfl) rfl
theorem q913 : (Jvm.Cond.instanceMethod ({ cls := "TollOnVowels", name := "best", desc := "(I)I" } : Jvm.MethodName)) ∈ lw_all := lw_g (lw_at lw_m4 78 rfl) rfl
theorem q914 : (Jvm.Cond.selects "TollOnVowels" ({ cls := "TollOnVowels", name := "best", desc := "(I)I" } : Jvm.MethodName) ({ cls := "TollOnVowels", name := "best", desc := "(I)I" } : Jvm.MethodName)) ∈ lw_all := lw_g (lw_at lw_m4 79 rfl) rfl
theorem q915 : (Jvm.Cond.code ({ cls := "TollOnVowels", name := "best", desc := "(I)I" } : Jvm.MethodName) prog_1_method_86_code (7 : Nat) (Option.some Jvm.ClassFile.FieldType.int)) ∈ lw_all := lw_g (lw_at lw_m4 80 rfl) rfl
theorem q916 : (Jvm.Cond.methodLink "TollOnVowels" (513 : Nat) ({ cls := "TollOnVowels", name := "costOf", desc := "(II)I" } : Jvm.MethodName)) ∈ lw_all := lw_g (lw_at lw_m4 81 rfl) rfl
theorem q917 : (Jvm.Cond.privateMethod ({ cls := "TollOnVowels", name := "costOf", desc := "(II)I" } : Jvm.MethodName)) ∈ lw_tbl := lw_at lw_m4 82 rfl
theorem q918 : (Jvm.Cond.instanceMethod ({ cls := "TollOnVowels", name := "costOf", desc := "(II)I" } : Jvm.MethodName)) ∈ lw_all := lw_g (lw_at lw_m4 83 rfl) rfl
theorem q919 : (Jvm.Cond.code ({ cls := "TollOnVowels", name := "costOf", desc := "(II)I" } : Jvm.MethodName) prog_1_method_84_code (5 : Nat) (Option.some Jvm.ClassFile.FieldType.int)) ∈ lw_all := lw_g (lw_at lw_m4 84 rfl) rfl
theorem q920 : (Jvm.Cond.methodLink "TollOnVowels" (516 : Nat) ({ cls := "TollOnVowels", name := "worthOf", desc := "(I)I" } : Jvm.MethodName)) ∈ lw_all := lw_g (lw_at lw_m4 85 rfl) rfl
theorem q921 : (Jvm.Cond.privateMethod ({ cls := "TollOnVowels", name := "worthOf", desc := "(I)I" } : Jvm.MethodName)) ∈ lw_tbl := lw_at lw_m4 86 rfl
theorem q922 : (Jvm.Cond.instanceMethod ({ cls := "TollOnVowels", name := "worthOf", desc := "(I)I" } : Jvm.MethodName)) ∈ lw_all := lw_g (lw_at lw_m4 87 rfl) rfl
theorem q923 : (Jvm.Cond.code ({ cls := "TollOnVowels", name := "worthOf", desc := "(I)I" } : Jvm.MethodName) prog_1_method_85_code (4 : Nat) (Option.some Jvm.ClassFile.FieldType.int)) ∈ lw_all := lw_g (lw_at lw_m4 88 rfl) rfl
theorem q925 : (Jvm.Cond.instanceMethod ({ cls := "TollOnVowels", name := "takes", desc := "(II)I" } : Jvm.MethodName)) ∈ lw_all := lw_g (lw_at lw_m4 90 rfl) rfl
theorem q926 : (Jvm.Cond.selects "TollOnVowels" ({ cls := "TollOnVowels", name := "takes", desc := "(II)I" } : Jvm.MethodName) ({ cls := "TollOnVowels", name := "takes", desc := "(II)I" } : Jvm.MethodName)) ∈ lw_all := lw_g (lw_at lw_m4 91 rfl) rfl
theorem q927 : (Jvm.Cond.code ({ cls := "TollOnVowels", name := "takes", desc := "(II)I" } : Jvm.MethodName) prog_1_method_88_code (4 : Nat) (Option.some Jvm.ClassFile.FieldType.int)) ∈ lw_all := lw_g (lw_at lw_m4 92 rfl) rfl
theorem q928 : (Jvm.Cond.methodLink "TollOnVowels" (522 : Nat) ({ cls := "TollOnVowels", name := "comesIn", desc := "(II)I" } : Jvm.MethodName)) ∈ lw_all := lw_g (lw_at lw_m4 93 rfl) rfl
theorem q929 : (Jvm.Cond.privateMethod ({ cls := "TollOnVowels", name := "comesIn", desc := "(II)I" } : Jvm.MethodName)) ∈ lw_tbl := lw_at lw_m4 94 rfl
theorem q930 : (Jvm.Cond.instanceMethod ({ cls := "TollOnVowels", name := "comesIn", desc := "(II)I" } : Jvm.MethodName)) ∈ lw_all := lw_g (lw_at lw_m4 95 rfl) rfl
theorem q931 : (Jvm.Cond.code ({ cls := "TollOnVowels", name := "comesIn", desc := "(II)I" } : Jvm.MethodName) prog_1_method_87_code (7 : Nat) (Option.some Jvm.ClassFile.FieldType.int)) ∈ lw_all := lw_g (lw_at lw_m4 96 rfl) rfl
theorem q933 : (Jvm.Cond.instanceMethod ({ cls := "TollOnVowels", name := "greed", desc := "(I)I" } : Jvm.MethodName)) ∈ lw_all := lw_g (lw_at lw_m4 98 rfl) rfl
theorem q934 : (Jvm.Cond.selects "TollOnVowels" ({ cls := "TollOnVowels", name := "greed", desc := "(I)I" } : Jvm.MethodName) ({ cls := "TollOnVowels", name := "greed", desc := "(I)I" } : Jvm.MethodName)) ∈ lw_all := lw_g (lw_at lw_m4 99 rfl) rfl
theorem q935 : (Jvm.Cond.code ({ cls := "TollOnVowels", name := "greed", desc := "(I)I" } : Jvm.MethodName) prog_1_method_89_code (4 : Nat) (Option.some Jvm.ClassFile.FieldType.int)) ∈ lw_all := lw_g (lw_at lw_m4 100 rfl) rfl
theorem q937 : (Jvm.Cond.instanceMethod ({ cls := "TollOnVowels", name := "law", desc := "(I)I" } : Jvm.MethodName)) ∈ lw_all := lw_g (lw_at lw_m4 102 rfl) rfl
theorem q938 : (Jvm.Cond.selects "TollOnVowels" ({ cls := "TollOnVowels", name := "law", desc := "(I)I" } : Jvm.MethodName) ({ cls := "TollOnVowels", name := "law", desc := "(I)I" } : Jvm.MethodName)) ∈ lw_all := lw_g (lw_at lw_m4 103 rfl) rfl
theorem q939 : (Jvm.Cond.code ({ cls := "TollOnVowels", name := "law", desc := "(I)I" } : Jvm.MethodName) prog_1_method_90_code (10 : Nat) (Option.some Jvm.ClassFile.FieldType.int)) ∈ lw_all := lw_g (lw_at lw_m4 104 rfl) rfl
theorem q941 : (Jvm.Cond.instanceMethod ({ cls := "TollOnVowels", name := "said", desc := "()I" } : Jvm.MethodName)) ∈ lw_all := lw_g (lw_at lw_m4 106 rfl) rfl
theorem q942 : (Jvm.Cond.selects "TollOnVowels" ({ cls := "TollOnVowels", name := "said", desc := "()I" } : Jvm.MethodName) ({ cls := "TollOnVowels", name := "said", desc := "()I" } : Jvm.MethodName)) ∈ lw_all := lw_g (lw_at lw_m4 107 rfl) rfl
theorem q943 : (Jvm.Cond.code ({ cls := "TollOnVowels", name := "said", desc := "()I" } : Jvm.MethodName) prog_1_method_94_code (2 : Nat) (Option.some Jvm.ClassFile.FieldType.int)) ∈ lw_all := lw_g (lw_at lw_m4 108 rfl) rfl
theorem q944 : (Jvm.Cond.methodLink "TollOnVowels" (537 : Nat) ({ cls := "TollOnVowels", name := "saysFrom", desc := "(III)V" } : Jvm.MethodName)) ∈ lw_all := lw_g (lw_at lw_m4 109 rfl) rfl
theorem q945 : (Jvm.Cond.privateMethod ({ cls := "TollOnVowels", name := "saysFrom", desc := "(III)V" } : Jvm.MethodName)) ∈ lw_tbl := lw_at lw_m4 110 rfl
theorem q946 : (Jvm.Cond.instanceMethod ({ cls := "TollOnVowels", name := "saysFrom", desc := "(III)V" } : Jvm.MethodName)) ∈ lw_all := lw_g (lw_at lw_m4 111 rfl) rfl
theorem q947 : (Jvm.Cond.code ({ cls := "TollOnVowels", name := "saysFrom", desc := "(III)V" } : Jvm.MethodName) prog_1_method_93_code (5 : Nat) (Option.none : Option Jvm.ClassFile.FieldType)) ∈ lw_all := lw_g (lw_at lw_m4 112 rfl) rfl
theorem q948 : (Jvm.Cond.methodLink "TollOnVowels" (525 : Nat) ({ cls := "TollOnVowels", name := "isNothingLeft", desc := "()Z" } : Jvm.MethodName)) ∈ lw_all := lw_g (lw_at lw_m4 113 rfl) rfl
theorem q949 : (Jvm.Cond.privateMethod ({ cls := "TollOnVowels", name := "isNothingLeft", desc := "()Z" } : Jvm.MethodName)) ∈ lw_tbl := lw_at lw_m4 114 rfl
theorem q950 : (Jvm.Cond.instanceMethod ({ cls := "TollOnVowels", name := "isNothingLeft", desc := "()Z" } : Jvm.MethodName)) ∈ lw_all := lw_g (lw_at lw_m4 115 rfl) rfl
theorem q951 : (Jvm.Cond.code ({ cls := "TollOnVowels", name := "isNothingLeft", desc := "()Z" } : Jvm.MethodName) prog_1_method_92_code (3 : Nat) (Option.some Jvm.ClassFile.FieldType.boolean)) ∈ lw_all := lw_g (lw_at lw_m4 116 rfl) rfl
theorem q952 : (Jvm.Cond.methodLink "TollOnVowels" (534 : Nat) ({ cls := "TollOnVowels", name := "changesLeft", desc := "(II)Z" } : Jvm.MethodName)) ∈ lw_all := lw_g (lw_at lw_m4 117 rfl) rfl
theorem q953 : (Jvm.Cond.privateMethod ({ cls := "TollOnVowels", name := "changesLeft", desc := "(II)Z" } : Jvm.MethodName)) ∈ lw_tbl := lw_at lw_m4 118 rfl
theorem q954 : (Jvm.Cond.instanceMethod ({ cls := "TollOnVowels", name := "changesLeft", desc := "(II)Z" } : Jvm.MethodName)) ∈ lw_all := lw_g (lw_at lw_m4 119 rfl) rfl
theorem q955 : (Jvm.Cond.code ({ cls := "TollOnVowels", name := "changesLeft", desc := "(II)Z" } : Jvm.MethodName) prog_1_method_91_code (5 : Nat) (Option.some Jvm.ClassFile.FieldType.boolean)) ∈ lw_all := lw_g (lw_at lw_m4 120 rfl) rfl
theorem q956 : (Jvm.Cond.methodLink "TollOnVowels" (359 : Nat) ({ cls := "TollOnVowels", name := "vowelIn", desc := "(II)I" } : Jvm.MethodName)) ∈ lw_all := lw_g (lw_at lw_m4 121 rfl) rfl
theorem q957 : (Jvm.Cond.privateMethod ({ cls := "TollOnVowels", name := "vowelIn", desc := "(II)I" } : Jvm.MethodName)) ∈ lw_tbl := lw_at lw_m4 122 rfl
theorem q958 : (Jvm.Cond.instanceMethod ({ cls := "TollOnVowels", name := "vowelIn", desc := "(II)I" } : Jvm.MethodName)) ∈ lw_all := lw_g (lw_at lw_m4 123 rfl) rfl
theorem q959 : (Jvm.Cond.code ({ cls := "TollOnVowels", name := "vowelIn", desc := "(II)I" } : Jvm.MethodName) prog_1_method_11_code (5 : Nat) (Option.some Jvm.ClassFile.FieldType.int)) ∈ lw_all := lw_g (lw_at lw_m4 124 rfl) rfl
theorem q961 : (Jvm.Cond.instanceMethod ({ cls := "TollOnVowels", name := "ask", desc := "()I" } : Jvm.MethodName)) ∈ lw_all := lw_g (lw_at lw_m4 126 rfl) rfl
theorem q962 : (Jvm.Cond.selects "TollOnVowels" ({ cls := "TollOnVowels", name := "ask", desc := "()I" } : Jvm.MethodName) ({ cls := "TollOnVowels", name := "ask", desc := "()I" } : Jvm.MethodName)) ∈ lw_all := lw_g (lw_at lw_m4 127 rfl) rfl
theorem q963 : (Jvm.Cond.code ({ cls := "TollOnVowels", name := "ask", desc := "()I" } : Jvm.MethodName) prog_1_method_96_code (3 : Nat) (Option.some Jvm.ClassFile.FieldType.int)) ∈ lw_all := lw_g (lw_at lw_m4 128 rfl) rfl
theorem q964 : (Jvm.Cond.methodLink "TollOnVowels" (540 : Nat) ({ cls := "TollOnVowels", name := "leftBy", desc := "(I)I" } : Jvm.MethodName)) ∈ lw_all := lw_g (lw_at lw_m4 129 rfl) rfl
theorem q965 : (Jvm.Cond.privateMethod ({ cls := "TollOnVowels", name := "leftBy", desc := "(I)I" } : Jvm.MethodName)) ∈ lw_tbl := lw_at lw_m4 130 rfl
theorem q966 : (Jvm.Cond.instanceMethod ({ cls := "TollOnVowels", name := "leftBy", desc := "(I)I" } : Jvm.MethodName)) ∈ lw_all := lw_g (lw_at lw_m4 131 rfl) rfl
theorem q967 : (Jvm.Cond.code ({ cls := "TollOnVowels", name := "leftBy", desc := "(I)I" } : Jvm.MethodName) prog_1_method_95_code (6 : Nat) (Option.some Jvm.ClassFile.FieldType.int)) ∈ lw_all := lw_g (lw_at lw_m4 132 rfl) rfl
theorem q969 : (Jvm.Cond.instanceMethod ({ cls := "TollOnVowels", name := "years", desc := "(II)I" } : Jvm.MethodName)) ∈ lw_all := lw_g (lw_at lw_m4 134 rfl) rfl
theorem q970 : (Jvm.Cond.selects "TollOnVowels" ({ cls := "TollOnVowels", name := "years", desc := "(II)I" } : Jvm.MethodName) ({ cls := "TollOnVowels", name := "years", desc := "(II)I" } : Jvm.MethodName)) ∈ lw_all := lw_g (lw_at lw_m4 135 rfl) rfl
theorem q971 : (Jvm.Cond.code ({ cls := "TollOnVowels", name := "years", desc := "(II)I" } : Jvm.MethodName) prog_1_method_98_code (10 : Nat) (Option.some Jvm.ClassFile.FieldType.int)) ∈ lw_all := lw_g (lw_at lw_m4 136 rfl) rfl
theorem q972 : (Jvm.Cond.constantLong "TollOnVowels" (547 : Nat) (60 : Int64)) ∈ lw_all := lw_g (lw_at lw_m4 137 rfl) rfl
theorem q973 : (Jvm.Cond.methodLink "TollOnVowels" (549 : Nat) ({ cls := "TollOnVowels", name := "draws", desc := "(I)I" } : Jvm.MethodName)) ∈ lw_all := lw_g (lw_at lw_m4 138 rfl) rfl
theorem q974 : (Jvm.Cond.privateMethod ({ cls := "TollOnVowels", name := "draws", desc := "(I)I" } : Jvm.MethodName)) ∈ lw_tbl := lw_at lw_m4 139 rfl
theorem q975 : (Jvm.Cond.instanceMethod ({ cls := "TollOnVowels", name := "draws", desc := "(I)I" } : Jvm.MethodName)) ∈ lw_all := lw_g (lw_at lw_m4 140 rfl) rfl
theorem q976 : (Jvm.Cond.code ({ cls := "TollOnVowels", name := "draws", desc := "(I)I" } : Jvm.MethodName) prog_1_method_97_code (2 : Nat) (Option.some Jvm.ClassFile.FieldType.int)) ∈ lw_all := lw_g (lw_at lw_m4 141 rfl) rfl
theorem q977 : (Jvm.Cond.constant "TollOnVowels" (546 : Nat) (1103515245 : Int32)) ∈ lw_all := lw_g (lw_at lw_m4 142 rfl) rfl
theorem q979 : (Jvm.Cond.instanceMethod ({ cls := "TollOnVowels", name := "keep", desc := "(I)Z" } : Jvm.MethodName)) ∈ lw_all := lw_g (lw_at lw_m4 144 rfl) rfl
theorem q980 : (Jvm.Cond.selects "TollOnVowels" ({ cls := "TollOnVowels", name := "keep", desc := "(I)Z" } : Jvm.MethodName) ({ cls := "TollOnVowels", name := "keep", desc := "(I)Z" } : Jvm.MethodName)) ∈ lw_all := lw_g (lw_at lw_m4 145 rfl) rfl
theorem q981 : (Jvm.Cond.code ({ cls := "TollOnVowels", name := "keep", desc := "(I)Z" } : Jvm.MethodName) prog_1_method_99_code (2 : Nat) (Option.some Jvm.ClassFile.FieldType.boolean)) ∈ lw_all := lw_g (lw_at lw_m4 146 rfl) rfl
theorem q983 : (Jvm.Cond.instanceMethod ({ cls := "TollOnVowels", name := "again", desc := "(I)Z" } : Jvm.MethodName)) ∈ lw_all := lw_g (lw_at lw_m4 148 rfl) rfl
theorem q984 : (Jvm.Cond.selects "TollOnVowels" ({ cls := "TollOnVowels", name := "again", desc := "(I)Z" } : Jvm.MethodName) ({ cls := "TollOnVowels", name := "again", desc := "(I)Z" } : Jvm.MethodName)) ∈ lw_all := lw_g (lw_at lw_m4 149 rfl) rfl
theorem q985 : (Jvm.Cond.code ({ cls := "TollOnVowels", name := "again", desc := "(I)Z" } : Jvm.MethodName) prog_1_method_100_code (2 : Nat) (Option.some Jvm.ClassFile.FieldType.boolean)) ∈ lw_all := lw_g (lw_at lw_m4 150 rfl) rfl
theorem q987 : (Jvm.Cond.instanceMethod ({ cls := "TollOnVowels", name := "count", desc := "(I)I" } : Jvm.MethodName)) ∈ lw_all := lw_g (lw_at lw_m4 152 rfl) rfl
theorem q988 : (Jvm.Cond.selects "TollOnVowels" ({ cls := "TollOnVowels", name := "count", desc := "(I)I" } : Jvm.MethodName) ({ cls := "TollOnVowels", name := "count", desc := "(I)I" } : Jvm.MethodName)) ∈ lw_all := lw_g (lw_at lw_m4 153 rfl) rfl
theorem q989 : (Jvm.Cond.code ({ cls := "TollOnVowels", name := "count", desc := "(I)I" } : Jvm.MethodName) prog_1_method_103_code (2 : Nat) (Option.some Jvm.ClassFile.FieldType.int)) ∈ lw_all := lw_g (lw_at lw_m4 154 rfl) rfl
theorem q990 : (Jvm.Cond.methodLink "TollOnVowels" (552 : Nat) ({ cls := "TollOnVowels$Road", name := "heardInAll", desc := "()I" } : Jvm.MethodName)) ∈ lw_all := lw_g (lw_at lw_m4 155 rfl) rfl
theorem q994 : (Jvm.Cond.methodLink "TollOnVowels" (555 : Nat) ({ cls := "TollOnVowels", name := "purses", desc := "()I" } : Jvm.MethodName)) ∈ lw_all := lw_g (lw_at lw_m4 159 rfl) rfl
theorem q995 : (Jvm.Cond.privateMethod ({ cls := "TollOnVowels", name := "purses", desc := "()I" } : Jvm.MethodName)) ∈ lw_tbl := lw_at lw_m4 160 rfl
theorem q996 : (Jvm.Cond.instanceMethod ({ cls := "TollOnVowels", name := "purses", desc := "()I" } : Jvm.MethodName)) ∈ lw_all := lw_g (lw_at lw_m4 161 rfl) rfl
theorem q997 : (Jvm.Cond.code ({ cls := "TollOnVowels", name := "purses", desc := "()I" } : Jvm.MethodName) prog_1_method_101_code (3 : Nat) (Option.some Jvm.ClassFile.FieldType.int)) ∈ lw_all := lw_g (lw_at lw_m4 162 rfl) rfl
theorem q998 : (Jvm.Cond.methodLink "TollOnVowels" (558 : Nat) ({ cls := "TollOnVowels", name := "compounds", desc := "()I" } : Jvm.MethodName)) ∈ lw_all := lw_g (lw_at lw_m4 163 rfl) rfl
theorem q999 : (Jvm.Cond.privateMethod ({ cls := "TollOnVowels", name := "compounds", desc := "()I" } : Jvm.MethodName)) ∈ lw_tbl := lw_at lw_m4 164 rfl
theorem q1000 : (Jvm.Cond.instanceMethod ({ cls := "TollOnVowels", name := "compounds", desc := "()I" } : Jvm.MethodName)) ∈ lw_all := lw_g (lw_at lw_m4 165 rfl) rfl
theorem q1001 : (Jvm.Cond.code ({ cls := "TollOnVowels", name := "compounds", desc := "()I" } : Jvm.MethodName) prog_1_method_102_code (3 : Nat) (Option.some Jvm.ClassFile.FieldType.int)) ∈ lw_all := lw_g (lw_at lw_m4 166 rfl) rfl
theorem q1007 : (Jvm.Cond.instanceMethod ({ cls := "TollOnVowels", name := "word", desc := "(II)I" } : Jvm.MethodName)) ∈ lw_all := lw_g (lw_at lw_m4 172 rfl) rfl
theorem q1008 : (Jvm.Cond.selects "TollOnVowels" ({ cls := "TollOnVowels", name := "word", desc := "(II)I" } : Jvm.MethodName) ({ cls := "TollOnVowels", name := "word", desc := "(II)I" } : Jvm.MethodName)) ∈ lw_all := lw_g (lw_at lw_m4 173 rfl) rfl
theorem q1009 : (Jvm.Cond.code ({ cls := "TollOnVowels", name := "word", desc := "(II)I" } : Jvm.MethodName) prog_1_method_38_code (3 : Nat) (Option.some Jvm.ClassFile.FieldType.int)) ∈ lw_all := lw_g (lw_at lw_m4 174 rfl) rfl
theorem q1010 : (Jvm.Cond.constantLong "TollOnVowels" (351 : Nat) (8 : Int64)) ∈ lw_all := lw_g (lw_at lw_m4 175 rfl) rfl
theorem q1011 : (Jvm.Cond.classLink "TollOnVowels" (353 : Nat) "java/util/NoSuchElementException") ∈ lw_all := lw_g (lw_at lw_m4 176 rfl) rfl
theorem q1050 : (Jvm.Cond.methodLink "TollOnVowels" (355 : Nat) ({ cls := "java/util/NoSuchElementException", name := "<init>", desc := "()V" } : Jvm.MethodName)) ∈ lw_all := lw_g (lw_at lw_m4 215 rfl) rfl
theorem q1076 : (Jvm.Cond.instanceMethod ({ cls := "TollOnVowels", name := "traveller", desc := "(II)I" } : Jvm.MethodName)) ∈ lw_all := lw_g (lw_at lw_m5 1 rfl) rfl
theorem q1077 : (Jvm.Cond.selects "TollOnVowels" ({ cls := "TollOnVowels", name := "traveller", desc := "(II)I" } : Jvm.MethodName) ({ cls := "TollOnVowels", name := "traveller", desc := "(II)I" } : Jvm.MethodName)) ∈ lw_all := lw_g (lw_at lw_m5 2 rfl) rfl
theorem q1078 : (Jvm.Cond.code ({ cls := "TollOnVowels", name := "traveller", desc := "(II)I" } : Jvm.MethodName) prog_1_method_39_code (5 : Nat) (Option.some Jvm.ClassFile.FieldType.int)) ∈ lw_all := lw_g (lw_at lw_m5 3 rfl) rfl
theorem q1083 : (Jvm.Cond.instanceMethod ({ cls := "TollOnVowels", name := "errand", desc := "(II)I" } : Jvm.MethodName)) ∈ lw_all := lw_g (lw_at lw_m5 8 rfl) rfl
theorem q1084 : (Jvm.Cond.selects "TollOnVowels" ({ cls := "TollOnVowels", name := "errand", desc := "(II)I" } : Jvm.MethodName) ({ cls := "TollOnVowels", name := "errand", desc := "(II)I" } : Jvm.MethodName)) ∈ lw_all := lw_g (lw_at lw_m5 9 rfl) rfl
theorem q1085 : (Jvm.Cond.code ({ cls := "TollOnVowels", name := "errand", desc := "(II)I" } : Jvm.MethodName) prog_1_method_40_code (3 : Nat) (Option.some Jvm.ClassFile.FieldType.int)) ∈ lw_all := lw_g (lw_at lw_m5 10 rfl) rfl
theorem q1090 : (Jvm.Cond.instanceMethod ({ cls := "TollOnVowels", name := "book", desc := "(II)I" } : Jvm.MethodName)) ∈ lw_all := lw_g (lw_at lw_m5 15 rfl) rfl
theorem q1091 : (Jvm.Cond.selects "TollOnVowels" ({ cls := "TollOnVowels", name := "book", desc := "(II)I" } : Jvm.MethodName) ({ cls := "TollOnVowels", name := "book", desc := "(II)I" } : Jvm.MethodName)) ∈ lw_all := lw_g (lw_at lw_m5 16 rfl) rfl
theorem q1092 : (Jvm.Cond.code ({ cls := "TollOnVowels", name := "book", desc := "(II)I" } : Jvm.MethodName) prog_1_method_41_code (3 : Nat) (Option.some Jvm.ClassFile.FieldType.int)) ∈ lw_all := lw_g (lw_at lw_m5 17 rfl) rfl
theorem q1093 : (Jvm.Cond.constantLong "TollOnVowels" (371 : Nat) (4 : Int64)) ∈ lw_all := lw_g (lw_at lw_m5 18 rfl) rfl
theorem q1098 : (Jvm.Cond.instanceMethod ({ cls := "TollOnVowels", name := "row", desc := "(I)J" } : Jvm.MethodName)) ∈ lw_all := lw_g (lw_at lw_m5 23 rfl) rfl
theorem q1099 : (Jvm.Cond.selects "TollOnVowels" ({ cls := "TollOnVowels", name := "row", desc := "(I)J" } : Jvm.MethodName) ({ cls := "TollOnVowels", name := "row", desc := "(I)J" } : Jvm.MethodName)) ∈ lw_all := lw_g (lw_at lw_m5 24 rfl) rfl
theorem q1100 : (Jvm.Cond.code ({ cls := "TollOnVowels", name := "row", desc := "(I)J" } : Jvm.MethodName) prog_1_method_105_code (2 : Nat) (Option.some Jvm.ClassFile.FieldType.long)) ∈ lw_all := lw_g (lw_at lw_m5 25 rfl) rfl
theorem q1695 : (Jvm.Cond.castable "TollOnVowels" "java/lang/Object") ∈ lw_tbl := lw_at lw_m7 140 rfl
theorem in_X1 : ∀ w ∈ wsX10, w ∈ lw_all := lw_in wsX10 [252, 254, 256, 258, 260, 262, 264, 266, 268, 270, 272, 274, 276, 278, 280, 282, 284, 286, 288, 290, 292, 294, 296, 298, 300, 302, 304, 306, 308, 310, 312, 314, 316, 318, 320, 322, 324, 326, 328, 330, 332, 334, 336, 338, 340, 342, 344, 346, 348, 350, 352, 354, 356, 358, 360, 362, 364, 366, 368, 370, 372, 374, 376, 378, 380, 382, 384, 386] (by decide +kernel) (by decide +kernel)

def RX2 : String := "TollOnVowels$Road"
def TX2 : u_T := fun k => match k with
  | 0 => ("TollOnVowels$Road", "at", "[I", true)
  | 1 => ("TollOnVowels$Road", "purse", "[I", true)
  | 2 => ("TollOnVowels$Road", "spent", "[I", true)
  | 3 => ("TollOnVowels$Road", "book", "[I", true)
  | 4 => ("TollOnVowels$Road", "hour", "I", false)
  | _ => ("TollOnVowels$Road", "done", "I", false)
def tyX2 : Nat → FieldType := fun k => match k with
  | 0 => .array .int
  | 1 => .array .int
  | 2 => .array .int
  | 3 => .array .int
  | 4 => .int
  | _ => .int
abbrev wsX20 : List Cond := u_ws RX2 TX2 6
theorem nmX2 : ∀ a, a < 6 → ∀ b, b < 6 → a ≠ b → (TX2 a).2.1 ≠ (TX2 b).2.1 := by decide +kernel
theorem tyX2_ok : ∀ k, k < 6 → parseFieldDescriptor (TX2 k).2.2.1 = some (tyX2 k) := by decide +kernel
abbrev cX2_init : ByteArray := prog_6_method_1_code
def yX2_init : MethodName := ⟨RX2, "<init>", "()V"⟩
abbrev cX2_becomes : ByteArray := prog_6_method_2_code
def yX2_becomes : MethodName := ⟨RX2, "becomes", "(LTollOnVowels$Road;)V"⟩
abbrev cX2_pays : ByteArray := prog_6_method_3_code
def yX2_pays : MethodName := ⟨RX2, "pays", "(II)V"⟩
abbrev cX2_hears : ByteArray := prog_6_method_4_code
def yX2_hears : MethodName := ⟨RX2, "hears", "(II)V"⟩
abbrev cX2_heardInAll : ByteArray := prog_6_method_5_code
def yX2_heardInAll : MethodName := ⟨RX2, "heardInAll", "()I"⟩
theorem q117 : (Jvm.Cond.initialized "TollOnVowels$Road") ∈ lw_all := lw_g (lw_at lw_m1 2 rfl) rfl
theorem q145 : (Jvm.Cond.instantiable "TollOnVowels$Road" (6 : Nat)) ∈ lw_all := lw_g (lw_at lw_m1 30 rfl) rfl
theorem q147 : (Jvm.Cond.instanceMethod ({ cls := "TollOnVowels$Road", name := "<init>", desc := "()V" } : Jvm.MethodName)) ∈ lw_all := lw_g (lw_at lw_m1 32 rfl) rfl
theorem q148 : (Jvm.Cond.code ({ cls := "TollOnVowels$Road", name := "<init>", desc := "()V" } : Jvm.MethodName) prog_6_method_1_code (1 : Nat) (Option.none : Option Jvm.ClassFile.FieldType)) ∈ lw_all := lw_g (lw_at lw_m1 33 rfl) rfl
theorem q149 : (Jvm.Cond.methodLink "TollOnVowels$Road" (3 : Nat) ({ cls := "java/lang/Object", name := "<init>", desc := "()V" } : Jvm.MethodName)) ∈ lw_all := lw_g (lw_at lw_m1 34 rfl) rfl
theorem q150 : (Jvm.Cond.fieldLink "TollOnVowels$Road" (9 : Nat) "TollOnVowels$Road" "at" "[I") ∈ lw_all := lw_g (lw_at lw_m1 35 rfl) rfl
theorem q152 : (Jvm.Cond.fieldLink "TollOnVowels$Road" (15 : Nat) "TollOnVowels$Road" "purse" "[I") ∈ lw_all := lw_g (lw_at lw_m1 37 rfl) rfl
theorem q154 : (Jvm.Cond.fieldLink "TollOnVowels$Road" (18 : Nat) "TollOnVowels$Road" "spent" "[I") ∈ lw_all := lw_g (lw_at lw_m1 39 rfl) rfl
theorem q156 : (Jvm.Cond.fieldLink "TollOnVowels$Road" (21 : Nat) "TollOnVowels$Road" "book" "[I") ∈ lw_all := lw_g (lw_at lw_m1 41 rfl) rfl
theorem q158 : (Jvm.Cond.fieldLink "TollOnVowels$Road" (30 : Nat) "TollOnVowels$Road" "hour" "I") ∈ lw_all := lw_g (lw_at lw_m1 43 rfl) rfl
theorem q160 : (Jvm.Cond.fieldLink "TollOnVowels$Road" (34 : Nat) "TollOnVowels$Road" "done" "I") ∈ lw_all := lw_g (lw_at lw_m1 45 rfl) rfl
theorem q162 : (Jvm.Cond.laysFinal "TollOnVowels$Road" "TollOnVowels$Road" "at" "[I") ∈ lw_all := lw_g (lw_at lw_m1 47 rfl) rfl
theorem q163 : (Jvm.Cond.soleField "TollOnVowels$Road" "at") ∈ lw_all := lw_g (lw_at lw_m1 48 rfl) rfl
theorem q164 : (Jvm.Cond.laysFinal "TollOnVowels$Road" "TollOnVowels$Road" "purse" "[I") ∈ lw_all := lw_g (lw_at lw_m1 49 rfl) rfl
theorem q165 : (Jvm.Cond.soleField "TollOnVowels$Road" "purse") ∈ lw_all := lw_g (lw_at lw_m1 50 rfl) rfl
theorem q166 : (Jvm.Cond.laysFinal "TollOnVowels$Road" "TollOnVowels$Road" "spent" "[I") ∈ lw_all := lw_g (lw_at lw_m1 51 rfl) rfl
theorem q167 : (Jvm.Cond.soleField "TollOnVowels$Road" "spent") ∈ lw_all := lw_g (lw_at lw_m1 52 rfl) rfl
theorem q168 : (Jvm.Cond.laysFinal "TollOnVowels$Road" "TollOnVowels$Road" "book" "[I") ∈ lw_all := lw_g (lw_at lw_m1 53 rfl) rfl
theorem q169 : (Jvm.Cond.soleField "TollOnVowels$Road" "book") ∈ lw_all := lw_g (lw_at lw_m1 54 rfl) rfl
theorem q170 : (Jvm.Cond.lays "TollOnVowels$Road" "TollOnVowels$Road" "hour" "I") ∈ lw_all := lw_g (lw_at lw_m1 55 rfl) rfl
theorem q171 : (Jvm.Cond.soleField "TollOnVowels$Road" "hour") ∈ lw_all := lw_g (lw_at lw_m1 56 rfl) rfl
theorem q172 : (Jvm.Cond.lays "TollOnVowels$Road" "TollOnVowels$Road" "done" "I") ∈ lw_all := lw_g (lw_at lw_m1 57 rfl) rfl
theorem q173 : (Jvm.Cond.soleField "TollOnVowels$Road" "done") ∈ lw_all := lw_g (lw_at lw_m1 58 rfl) rfl
theorem q174 : (Jvm.Cond.superclass "TollOnVowels$Road" "java/lang/Object") ∈ lw_all := lw_g (lw_at lw_m1 59 rfl) rfl
theorem q666 : (Jvm.Cond.instanceMethod ({ cls := "TollOnVowels$Road", name := "becomes", desc := "(LTollOnVowels$Road;)V" } : Jvm.MethodName)) ∈ lw_all := lw_g (lw_at lw_m3 71 rfl) rfl
theorem q667 : (Jvm.Cond.selects "TollOnVowels$Road" ({ cls := "TollOnVowels$Road", name := "becomes", desc := "(LTollOnVowels$Road;)V" } : Jvm.MethodName) ({ cls := "TollOnVowels$Road", name := "becomes", desc := "(LTollOnVowels$Road;)V" } : Jvm.MethodName)) ∈ lw_all := lw_g (lw_at lw_m3 72 rfl) rfl
theorem q668 : (Jvm.Cond.code ({ cls := "TollOnVowels$Road", name := "becomes", desc := "(LTollOnVowels$Road;)V" } : Jvm.MethodName) prog_6_method_2_code (2 : Nat) (Option.none : Option Jvm.ClassFile.FieldType)) ∈ lw_all := lw_g (lw_at lw_m3 73 rfl) rfl
theorem q669 : (Jvm.Cond.methodLink "TollOnVowels$Road" (24 : Nat) ({ cls := "java/lang/System", name := "arraycopy", desc := "(Ljava/lang/Object;ILjava/lang/Object;II)V" } : Jvm.MethodName)) ∈ lw_all := lw_g (lw_at lw_m3 74 rfl) rfl
theorem q746 : (Jvm.Cond.instanceMethod ({ cls := "TollOnVowels$Road", name := "pays", desc := "(II)V" } : Jvm.MethodName)) ∈ lw_all := lw_g (lw_at lw_m3 151 rfl) rfl
theorem q747 : (Jvm.Cond.selects "TollOnVowels$Road" ({ cls := "TollOnVowels$Road", name := "pays", desc := "(II)V" } : Jvm.MethodName) ({ cls := "TollOnVowels$Road", name := "pays", desc := "(II)V" } : Jvm.MethodName)) ∈ lw_all := lw_g (lw_at lw_m3 152 rfl) rfl
theorem q748 : (Jvm.Cond.code ({ cls := "TollOnVowels$Road", name := "pays", desc := "(II)V" } : Jvm.MethodName) prog_6_method_3_code (3 : Nat) (Option.none : Option Jvm.ClassFile.FieldType)) ∈ lw_all := lw_g (lw_at lw_m3 153 rfl) rfl
theorem q750 : (Jvm.Cond.instanceMethod ({ cls := "TollOnVowels$Road", name := "hears", desc := "(II)V" } : Jvm.MethodName)) ∈ lw_all := lw_g (lw_at lw_m3 155 rfl) rfl
theorem q751 : (Jvm.Cond.selects "TollOnVowels$Road" ({ cls := "TollOnVowels$Road", name := "hears", desc := "(II)V" } : Jvm.MethodName) ({ cls := "TollOnVowels$Road", name := "hears", desc := "(II)V" } : Jvm.MethodName)) ∈ lw_all := lw_g (lw_at lw_m3 156 rfl) rfl
theorem q752 : (Jvm.Cond.code ({ cls := "TollOnVowels$Road", name := "hears", desc := "(II)V" } : Jvm.MethodName) prog_6_method_4_code (3 : Nat) (Option.none : Option Jvm.ClassFile.FieldType)) ∈ lw_all := lw_g (lw_at lw_m3 157 rfl) rfl
theorem q991 : (Jvm.Cond.instanceMethod ({ cls := "TollOnVowels$Road", name := "heardInAll", desc := "()I" } : Jvm.MethodName)) ∈ lw_all := lw_g (lw_at lw_m4 156 rfl) rfl
theorem q992 : (Jvm.Cond.selects "TollOnVowels$Road" ({ cls := "TollOnVowels$Road", name := "heardInAll", desc := "()I" } : Jvm.MethodName) ({ cls := "TollOnVowels$Road", name := "heardInAll", desc := "()I" } : Jvm.MethodName)) ∈ lw_all := lw_g (lw_at lw_m4 157 rfl) rfl
theorem q993 : (Jvm.Cond.code ({ cls := "TollOnVowels$Road", name := "heardInAll", desc := "()I" } : Jvm.MethodName) prog_6_method_5_code (3 : Nat) (Option.some Jvm.ClassFile.FieldType.int)) ∈ lw_all := lw_g (lw_at lw_m4 158 rfl) rfl
theorem q1696 : (Jvm.Cond.castable "TollOnVowels$Road" "java/lang/Object") ∈ lw_tbl := lw_at lw_m7 141 rfl
theorem in_X2 : ∀ w ∈ wsX20, w ∈ lw_all := lw_in wsX20 [162, 164, 166, 168, 170, 172] (by decide +kernel) (by decide +kernel)

def RX3 : String := "TollOnVowelsModel"
def TX3 : u_T := fun k => match k with
  | 0 => ("TollOnVowelsModel", "now", "[I", true)
  | 1 => ("TollOnVowelsModel", "stations", "I", false)
  | 2 => ("TollOnVowelsModel", "words", "I", false)
  | 3 => ("TollOnVowelsModel", "letters", "[B", true)
  | 4 => ("TollOnVowelsModel", "size", "[I", true)
  | 5 => ("TollOnVowelsModel", "meaning", "[I", true)
  | 6 => ("TollOnVowelsModel", "travellers", "I", false)
  | 7 => ("TollOnVowelsModel", "errands", "I", false)
  | 8 => ("TollOnVowelsModel", "errand", "[I", true)
  | 9 => ("TollOnVowelsModel", "text", "[B", true)
  | 10 => ("TollOnVowelsModel", "typed", "I", false)
  | 11 => ("TollOnVowelsModel", "row", "[J", true)
  | 12 => ("TollOnVowelsModel", "rowMany", "I", false)
  | 13 => ("TollOnVowelsModel", "thrown", "I", false)
  | 14 => ("TollOnVowelsModel", "read", "[B", false)
  | 15 => ("TollOnVowelsModel", "length", "I", false)
  | 16 => ("TollOnVowelsModel", "top", "I", false)
  | 17 => ("TollOnVowelsModel", "at", "I", false)
  | 18 => ("TollOnVowelsModel", "wrong", "I", false)
  | 19 => ("TollOnVowelsModel", "newLetters", "[B", true)
  | 20 => ("TollOnVowelsModel", "newSize", "[I", true)
  | 21 => ("TollOnVowelsModel", "comes", "[I", true)
  | 22 => ("TollOnVowelsModel", "rule", "[B", false)
  | 23 => ("TollOnVowelsModel", "otherRule", "[B", false)
  | 24 => ("TollOnVowelsModel", "ruleSize", "I", false)
  | 25 => ("TollOnVowelsModel", "isAsked", "Z", false)
  | 26 => ("TollOnVowelsModel", "asked", "[I", true)
  | 27 => ("TollOnVowelsModel", "byVowel", "[I", true)
  | 28 => ("TollOnVowelsModel", "undos", "[I", true)
  | 29 => ("TollOnVowelsModel", "undoMany", "I", false)
  | 30 => ("TollOnVowelsModel", "aside", "[I", true)
  | 31 => ("TollOnVowelsModel", "doneNow", "I", false)
  | 32 => ("TollOnVowelsModel", "acts", "[I", true)
  | 33 => ("TollOnVowelsModel", "paid", "I", false)
  | 34 => ("TollOnVowelsModel", "least", "[I", true)
  | 35 => ("TollOnVowelsModel", "one", "[I", true)
  | 36 => ("TollOnVowelsModel", "other", "[I", true)
  | 37 => ("TollOnVowelsModel", "changes", "[I", true)
  | 38 => ("TollOnVowelsModel", "cost", "[I", true)
  | 39 => ("TollOnVowelsModel", "nextCost", "[I", true)
  | 40 => ("TollOnVowelsModel", "firstHour", "I", false)
  | 41 => ("TollOnVowelsModel", "firstCost", "I", false)
  | 42 => ("TollOnVowelsModel", "leastHour", "I", false)
  | 43 => ("TollOnVowelsModel", "saidMany", "I", false)
  | 44 => ("TollOnVowelsModel", "was", "[I", true)
  | 45 => ("TollOnVowelsModel", "left", "[I", true)
  | 46 => ("TollOnVowelsModel", "way", "[I", true)
  | 47 => ("TollOnVowelsModel", "firstWay", "[I", true)
  | 48 => ("TollOnVowelsModel", "firstMany", "I", false)
  | 49 => ("TollOnVowelsModel", "ways", "I", false)
  | 50 => ("TollOnVowelsModel", "drawn", "I", false)
  | 51 => ("TollOnVowelsModel", "then", "[I", true)
  | 52 => ("TollOnVowelsModel", "came", "I", false)
  | 53 => ("TollOnVowelsModel", "kept", "[I", true)
  | 54 => ("TollOnVowelsModel", "isKept", "[Z", true)
  | _ => ("TollOnVowelsModel", "keptCame", "[I", true)
def tyX3 : Nat → FieldType := fun k => match k with
  | 0 => .array .int
  | 1 => .int
  | 2 => .int
  | 3 => .array .byte
  | 4 => .array .int
  | 5 => .array .int
  | 6 => .int
  | 7 => .int
  | 8 => .array .int
  | 9 => .array .byte
  | 10 => .int
  | 11 => .array .long
  | 12 => .int
  | 13 => .int
  | 14 => .array .byte
  | 15 => .int
  | 16 => .int
  | 17 => .int
  | 18 => .int
  | 19 => .array .byte
  | 20 => .array .int
  | 21 => .array .int
  | 22 => .array .byte
  | 23 => .array .byte
  | 24 => .int
  | 25 => .boolean
  | 26 => .array .int
  | 27 => .array .int
  | 28 => .array .int
  | 29 => .int
  | 30 => .array .int
  | 31 => .int
  | 32 => .array .int
  | 33 => .int
  | 34 => .array .int
  | 35 => .array .int
  | 36 => .array .int
  | 37 => .array .int
  | 38 => .array .int
  | 39 => .array .int
  | 40 => .int
  | 41 => .int
  | 42 => .int
  | 43 => .int
  | 44 => .array .int
  | 45 => .array .int
  | 46 => .array .int
  | 47 => .array .int
  | 48 => .int
  | 49 => .int
  | 50 => .int
  | 51 => .array .int
  | 52 => .int
  | 53 => .array .int
  | 54 => .array .boolean
  | _ => .array .int
abbrev wsX30 : List Cond := u_ws RX3 TX3 56
set_option maxRecDepth 100000 in
theorem nmX3 : ∀ a, a < 56 → ∀ b, b < 56 → a ≠ b → (TX3 a).2.1 ≠ (TX3 b).2.1 := by decide +kernel
set_option maxRecDepth 100000 in
theorem tyX3_ok : ∀ k, k < 56 → parseFieldDescriptor (TX3 k).2.2.1 = some (tyX3 k) := by decide +kernel
abbrev cX3_init : ByteArray := prog_9_method_1_code
def yX3_init : MethodName := ⟨RX3, "<init>", "()V"⟩
abbrev cX3_thrown : ByteArray := prog_9_method_2_code
def yX3_thrown : MethodName := ⟨RX3, "thrown", "()I"⟩
abbrev cX3_sign : ByteArray := prog_9_method_11_code
def yX3_sign : MethodName := ⟨RX3, "sign", "(I)I"⟩
abbrev cX3_end : ByteArray := prog_9_method_12_code
def yX3_end : MethodName := ⟨RX3, "end", "(I)Z"⟩
abbrev cX3_in : ByteArray := prog_9_method_3_code
def yX3_in : MethodName := ⟨RX3, "in", "(III)Z"⟩
abbrev cX3_road : ByteArray := prog_9_method_23_code
def yX3_road : MethodName := ⟨RX3, "road", "(I)I"⟩
abbrev cX3_words : ByteArray := prog_9_method_25_code
def yX3_words : MethodName := ⟨RX3, "words", "()I"⟩
abbrev cX3_beginText : ByteArray := prog_9_method_14_code
def yX3_beginText : MethodName := ⟨RX3, "beginText", "(I)V"⟩
abbrev cX3_begin : ByteArray := prog_9_method_13_code
def yX3_begin : MethodName := ⟨RX3, "begin", "([BII)V"⟩
abbrev cX3_fine : ByteArray := prog_9_method_16_code
def yX3_fine : MethodName := ⟨RX3, "fine", "()Z"⟩
abbrev cX3_fault : ByteArray := prog_9_method_17_code
def yX3_fault : MethodName := ⟨RX3, "fault", "(I)V"⟩
abbrev cX3_readWord : ByteArray := prog_9_method_24_code
def yX3_readWord : MethodName := ⟨RX3, "readWord", "(I)V"⟩
abbrev cX3_oneOf : ByteArray := prog_9_method_20_code
def yX3_oneOf : MethodName := ⟨RX3, "oneOf", "(CI)I"⟩
abbrev cX3_here : ByteArray := prog_9_method_15_code
def yX3_here : MethodName := ⟨RX3, "here", "()I"⟩
abbrev cX3_passes : ByteArray := prog_9_method_18_code
def yX3_passes : MethodName := ⟨RX3, "passes", "(C)Z"⟩
abbrev cX3_wasRight : ByteArray := prog_9_method_22_code
def yX3_wasRight : MethodName := ⟨RX3, "wasRight", "()Z"⟩
abbrev cX3_travellers : ByteArray := prog_9_method_26_code
def yX3_travellers : MethodName := ⟨RX3, "travellers", "()I"⟩
abbrev cX3_need : ByteArray := prog_9_method_19_code
def yX3_need : MethodName := ⟨RX3, "need", "(C)V"⟩
abbrev cX3_number : ByteArray := prog_9_method_21_code
def yX3_number : MethodName := ⟨RX3, "number", "(I)I"⟩
abbrev cX3_errands : ByteArray := prog_9_method_27_code
def yX3_errands : MethodName := ⟨RX3, "errands", "()I"⟩
abbrev cX3_rule : ByteArray := prog_9_method_34_code
def yX3_rule : MethodName := ⟨RX3, "rule", "()I"⟩
abbrev cX3_readRule : ByteArray := prog_9_method_33_code
def yX3_readRule : MethodName := ⟨RX3, "readRule", "()Z"⟩
abbrev cX3_held : ByteArray := prog_9_method_28_code
def yX3_held : MethodName := ⟨RX3, "held", "(I)I"⟩
abbrev cX3_sum : ByteArray := prog_9_method_29_code
def yX3_sum : MethodName := ⟨RX3, "sum", "(I)I"⟩
abbrev cX3_product : ByteArray := prog_9_method_30_code
def yX3_product : MethodName := ⟨RX3, "product", "(I)I"⟩
abbrev cX3_thing : ByteArray := prog_9_method_32_code
def yX3_thing : MethodName := ⟨RX3, "thing", "(I)I"⟩
abbrev cX3_letterOf : ByteArray := prog_9_method_31_code
def yX3_letterOf : MethodName := ⟨RX3, "letterOf", "(I)I"⟩
abbrev cX3_word : ByteArray := prog_9_method_42_code
def yX3_word : MethodName := ⟨RX3, "word", "(II)I"⟩
abbrev cX3_isWord : ByteArray := prog_9_method_8_code
def yX3_isWord : MethodName := ⟨RX3, "isWord", "(I)Z"⟩
abbrev cX3_lost : ByteArray := prog_9_method_5_code
def yX3_lost : MethodName := ⟨RX3, "lost", "()I"⟩
abbrev cX3_vowelsIn : ByteArray := prog_9_method_40_code
def yX3_vowelsIn : MethodName := ⟨RX3, "vowelsIn", "(I)I"⟩
abbrev cX3_often : ByteArray := prog_9_method_39_code
def yX3_often : MethodName := ⟨RX3, "often", "(II)I"⟩
abbrev cX3_letter : ByteArray := prog_9_method_36_code
def yX3_letter : MethodName := ⟨RX3, "letter", "(II)I"⟩
abbrev cX3_vowelOf : ByteArray := prog_9_method_35_code
def yX3_vowelOf : MethodName := ⟨RX3, "vowelOf", "(I)I"⟩
abbrev cX3_traveller : ByteArray := prog_9_method_45_code
def yX3_traveller : MethodName := ⟨RX3, "traveller", "(II)I"⟩
abbrev cX3_isOne : ByteArray := prog_9_method_9_code
def yX3_isOne : MethodName := ⟨RX3, "isOne", "(I)Z"⟩
abbrev cX3_openOf : ByteArray := prog_9_method_44_code
def yX3_openOf : MethodName := ⟨RX3, "openOf", "(I)I"⟩
abbrev cX3_field : ByteArray := prog_9_method_43_code
def yX3_field : MethodName := ⟨RX3, "field", "(II)I"⟩
abbrev cX3_has : ByteArray := prog_9_method_4_code
def yX3_has : MethodName := ⟨RX3, "has", "(II)Z"⟩
abbrev cX3_errand : ByteArray := prog_9_method_46_code
def yX3_errand : MethodName := ⟨RX3, "errand", "(II)I"⟩
abbrev cX3_book : ByteArray := prog_9_method_47_code
def yX3_book : MethodName := ⟨RX3, "book", "(II)I"⟩
abbrev cX3_isStation : ByteArray := prog_9_method_7_code
def yX3_isStation : MethodName := ⟨RX3, "isStation", "(I)Z"⟩
abbrev cX3_sheet : ByteArray := prog_9_method_48_code
def yX3_sheet : MethodName := ⟨RX3, "sheet", "(IIII)I"⟩
abbrev cX3_toll : ByteArray := prog_9_method_51_code
def yX3_toll : MethodName := ⟨RX3, "toll", "(II)I"⟩
abbrev cX3_tollNow : ByteArray := prog_9_method_38_code
def yX3_tollNow : MethodName := ⟨RX3, "tollNow", "(II)I"⟩
abbrev cX3_tollOf : ByteArray := prog_9_method_37_code
def yX3_tollOf : MethodName := ⟨RX3, "tollOf", "(III)I"⟩
abbrev cX3_tell : ByteArray := prog_9_method_6_code
def yX3_tell : MethodName := ⟨RX3, "tell", "(J)V"⟩
abbrev cX3_walk : ByteArray := prog_9_method_54_code
def yX3_walk : MethodName := ⟨RX3, "walk", "(II)I"⟩
abbrev cX3_refusesWalk : ByteArray := prog_9_method_52_code
def yX3_refusesWalk : MethodName := ⟨RX3, "refusesWalk", "([III)I"⟩
abbrev cX3_remember : ByteArray := prog_9_method_50_code
def yX3_remember : MethodName := ⟨RX3, "remember", "([I)V"⟩
abbrev cX3_lay : ByteArray := prog_9_method_49_code
def yX3_lay : MethodName := ⟨RX3, "lay", "([I[II)V"⟩
abbrev cX3_goWalk : ByteArray := prog_9_method_53_code
def yX3_goWalk : MethodName := ⟨RX3, "goWalk", "([III)I"⟩
abbrev cX3_pause : ByteArray := prog_9_method_55_code
def yX3_pause : MethodName := ⟨RX3, "pause", "(I)I"⟩
abbrev cX3_say : ByteArray := prog_9_method_58_code
def yX3_say : MethodName := ⟨RX3, "say", "(II)I"⟩
abbrev cX3_refusesSay : ByteArray := prog_9_method_56_code
def yX3_refusesSay : MethodName := ⟨RX3, "refusesSay", "([III)I"⟩
abbrev cX3_goSay : ByteArray := prog_9_method_57_code
def yX3_goSay : MethodName := ⟨RX3, "goSay", "([III)I"⟩
abbrev cX3_means : ByteArray := prog_9_method_41_code
def yX3_means : MethodName := ⟨RX3, "means", "(II)Z"⟩
abbrev cX3_alms : ByteArray := prog_9_method_59_code
def yX3_alms : MethodName := ⟨RX3, "alms", "(III)I"⟩
abbrev cX3_journey : ByteArray := prog_9_method_60_code
def yX3_journey : MethodName := ⟨RX3, "journey", "()I"⟩
abbrev cX3_readAct : ByteArray := prog_9_method_61_code
def yX3_readAct : MethodName := ⟨RX3, "readAct", "(I)V"⟩
abbrev cX3_act : ByteArray := prog_9_method_62_code
def yX3_act : MethodName := ⟨RX3, "act", "(III)Z"⟩
abbrev cX3_wordFor : ByteArray := prog_9_method_63_code
def yX3_wordFor : MethodName := ⟨RX3, "wordFor", "(I)I"⟩
abbrev cX3_cheapestOf : ByteArray := prog_9_method_65_code
def yX3_cheapestOf : MethodName := ⟨RX3, "cheapestOf", "(II)I"⟩
abbrev cX3_undo : ByteArray := prog_9_method_64_code
def yX3_undo : MethodName := ⟨RX3, "undo", "()I"⟩
abbrev cX3_cheapest : ByteArray := prog_9_method_66_code
def yX3_cheapest : MethodName := ⟨RX3, "cheapest", "(II)I"⟩
abbrev cX3_isMeaning : ByteArray := prog_9_method_10_code
def yX3_isMeaning : MethodName := ⟨RX3, "isMeaning", "(I)Z"⟩
abbrev cX3_sentence : ByteArray := prog_9_method_68_code
def yX3_sentence : MethodName := ⟨RX3, "sentence", "(I)I"⟩
abbrev cX3_tells : ByteArray := prog_9_method_67_code
def yX3_tells : MethodName := ⟨RX3, "tells", "(III)I"⟩
abbrev cX3_when : ByteArray := prog_9_method_69_code
def yX3_when : MethodName := ⟨RX3, "when", "(II)I"⟩
abbrev cX3_shortest : ByteArray := prog_9_method_70_code
def yX3_shortest : MethodName := ⟨RX3, "shortest", "(III)I"⟩
abbrev cX3_differ : ByteArray := prog_9_method_74_code
def yX3_differ : MethodName := ⟨RX3, "differ", "(II)I"⟩
abbrev cX3_differBy : ByteArray := prog_9_method_73_code
def yX3_differBy : MethodName := ⟨RX3, "differBy", "(IIZ)I"⟩
abbrev cX3_layWord : ByteArray := prog_9_method_72_code
def yX3_layWord : MethodName := ⟨RX3, "layWord", "(I[IZ)I"⟩
abbrev cX3_changesOf : ByteArray := prog_9_method_71_code
def yX3_changesOf : MethodName := ⟨RX3, "changesOf", "(II)I"⟩
abbrev cX3_near : ByteArray := prog_9_method_76_code
def yX3_near : MethodName := ⟨RX3, "near", "(I)I"⟩
abbrev cX3_share : ByteArray := prog_9_method_75_code
def yX3_share : MethodName := ⟨RX3, "share", "(II)Z"⟩
abbrev cX3_heard : ByteArray := prog_9_method_79_code
def yX3_heard : MethodName := ⟨RX3, "heard", "(III)I"⟩
abbrev cX3_power : ByteArray := prog_9_method_78_code
def yX3_power : MethodName := ⟨RX3, "power", "(JI)J"⟩
abbrev cX3_common : ByteArray := prog_9_method_77_code
def yX3_common : MethodName := ⟨RX3, "common", "(JJ)J"⟩
abbrev cX3_code : ByteArray := prog_9_method_82_code
def yX3_code : MethodName := ⟨RX3, "code", "(I)I"⟩
abbrev cX3_tollsOf : ByteArray := prog_9_method_81_code
def yX3_tollsOf : MethodName := ⟨RX3, "tollsOf", "(II)I"⟩
abbrev cX3_areApart : ByteArray := prog_9_method_80_code
def yX3_areApart : MethodName := ⟨RX3, "areApart", "(II)Z"⟩
abbrev cX3_trip : ByteArray := prog_9_method_87_code
def yX3_trip : MethodName := ⟨RX3, "trip", "(II)I"⟩
abbrev cX3_leastTrip : ByteArray := prog_9_method_86_code
def yX3_leastTrip : MethodName := ⟨RX3, "leastTrip", "(II)I"⟩
abbrev cX3_move : ByteArray := prog_9_method_85_code
def yX3_move : MethodName := ⟨RX3, "move", "()V"⟩
abbrev cX3_speak : ByteArray := prog_9_method_84_code
def yX3_speak : MethodName := ⟨RX3, "speak", "(II)V"⟩
abbrev cX3_does : ByteArray := prog_9_method_83_code
def yX3_does : MethodName := ⟨RX3, "does", "(III)I"⟩
abbrev cX3_haste : ByteArray := prog_9_method_88_code
def yX3_haste : MethodName := ⟨RX3, "haste", "(I)I"⟩
abbrev cX3_best : ByteArray := prog_9_method_89_code
def yX3_best : MethodName := ⟨RX3, "best", "(I)I"⟩
abbrev cX3_takes : ByteArray := prog_9_method_91_code
def yX3_takes : MethodName := ⟨RX3, "takes", "(II)I"⟩
abbrev cX3_takesBy : ByteArray := prog_9_method_90_code
def yX3_takesBy : MethodName := ⟨RX3, "takesBy", "(II)I"⟩
abbrev cX3_greed : ByteArray := prog_9_method_92_code
def yX3_greed : MethodName := ⟨RX3, "greed", "(I)I"⟩
abbrev cX3_law : ByteArray := prog_9_method_93_code
def yX3_law : MethodName := ⟨RX3, "law", "(I)I"⟩
abbrev cX3_said : ByteArray := prog_9_method_98_code
def yX3_said : MethodName := ⟨RX3, "said", "()I"⟩
abbrev cX3_goSaid : ByteArray := prog_9_method_97_code
def yX3_goSaid : MethodName := ⟨RX3, "goSaid", "(II)V"⟩
abbrev cX3_isAll : ByteArray := prog_9_method_94_code
def yX3_isAll : MethodName := ⟨RX3, "isAll", "()Z"⟩
abbrev cX3_isFirst : ByteArray := prog_9_method_96_code
def yX3_isFirst : MethodName := ⟨RX3, "isFirst", "(I)Z"⟩
abbrev cX3_take : ByteArray := prog_9_method_95_code
def yX3_take : MethodName := ⟨RX3, "take", "(II)V"⟩
abbrev cX3_ask : ByteArray := prog_9_method_99_code
def yX3_ask : MethodName := ⟨RX3, "ask", "()I"⟩
abbrev cX3_years : ByteArray := prog_9_method_101_code
def yX3_years : MethodName := ⟨RX3, "years", "(II)I"⟩
abbrev cX3_draw : ByteArray := prog_9_method_100_code
def yX3_draw : MethodName := ⟨RX3, "draw", "(I)I"⟩
abbrev cX3_keep : ByteArray := prog_9_method_102_code
def yX3_keep : MethodName := ⟨RX3, "keep", "(I)Z"⟩
abbrev cX3_again : ByteArray := prog_9_method_103_code
def yX3_again : MethodName := ⟨RX3, "again", "(I)Z"⟩
abbrev cX3_count : ByteArray := prog_9_method_105_code
def yX3_count : MethodName := ⟨RX3, "count", "(I)I"⟩
abbrev cX3_sumOf : ByteArray := prog_9_method_104_code
def yX3_sumOf : MethodName := ⟨RX3, "sumOf", "(II)I"⟩
abbrev cX3_row : ByteArray := prog_9_method_106_code
def yX3_row : MethodName := ⟨RX3, "row", "(I)J"⟩
theorem q118 : (Jvm.Cond.initialized "TollOnVowelsModel") ∈ lw_all := lw_g (lw_at lw_m1 3 rfl) rfl
theorem q1102 : (Jvm.Cond.instantiable "TollOnVowelsModel" (56 : Nat)) ∈ lw_all := lw_g (lw_at lw_m5 27 rfl) rfl
theorem q1104 : (Jvm.Cond.instanceMethod ({ cls := "TollOnVowelsModel", name := "<init>", desc := "()V" } : Jvm.MethodName)) ∈ lw_all := lw_g (lw_at lw_m5 29 rfl) rfl
theorem q1105 : (Jvm.Cond.code ({ cls := "TollOnVowelsModel", name := "<init>", desc := "()V" } : Jvm.MethodName) prog_9_method_1_code (1 : Nat) (Option.none : Option Jvm.ClassFile.FieldType)) ∈ lw_all := lw_g (lw_at lw_m5 30 rfl) rfl
theorem q1106 : (Jvm.Cond.methodLink "TollOnVowelsModel" (3 : Nat) ({ cls := "java/lang/Object", name := "<init>", desc := "()V" } : Jvm.MethodName)) ∈ lw_all := lw_g (lw_at lw_m5 31 rfl) rfl
theorem q1107 : (Jvm.Cond.fieldLink "TollOnVowelsModel" (9 : Nat) "TollOnVowelsModel" "now" "[I") ∈ lw_all := lw_g (lw_at lw_m5 32 rfl) rfl
theorem q1108 : (Jvm.Cond.fieldLink "TollOnVowelsModel" (13 : Nat) "TollOnVowelsModel" "stations" "I") ∈ lw_all := lw_g (lw_at lw_m5 33 rfl) rfl
theorem q1109 : (Jvm.Cond.fieldLink "TollOnVowelsModel" (120 : Nat) "TollOnVowelsModel" "words" "I") ∈ lw_all := lw_g (lw_at lw_m5 34 rfl) rfl
theorem q1110 : (Jvm.Cond.fieldLink "TollOnVowelsModel" (17 : Nat) "TollOnVowelsModel" "letters" "[B") ∈ lw_all := lw_g (lw_at lw_m5 35 rfl) rfl
theorem q1111 : (Jvm.Cond.fieldLink "TollOnVowelsModel" (21 : Nat) "TollOnVowelsModel" "size" "[I") ∈ lw_all := lw_g (lw_at lw_m5 36 rfl) rfl
theorem q1112 : (Jvm.Cond.fieldLink "TollOnVowelsModel" (24 : Nat) "TollOnVowelsModel" "meaning" "[I") ∈ lw_all := lw_g (lw_at lw_m5 37 rfl) rfl
theorem q1113 : (Jvm.Cond.fieldLink "TollOnVowelsModel" (123 : Nat) "TollOnVowelsModel" "travellers" "I") ∈ lw_all := lw_g (lw_at lw_m5 38 rfl) rfl
theorem q1114 : (Jvm.Cond.fieldLink "TollOnVowelsModel" (168 : Nat) "TollOnVowelsModel" "errands" "I") ∈ lw_all := lw_g (lw_at lw_m5 39 rfl) rfl
theorem q1115 : (Jvm.Cond.fieldLink "TollOnVowelsModel" (27 : Nat) "TollOnVowelsModel" "errand" "[I") ∈ lw_all := lw_g (lw_at lw_m5 40 rfl) rfl
theorem q1116 : (Jvm.Cond.fieldLink "TollOnVowelsModel" (30 : Nat) "TollOnVowelsModel" "text" "[B") ∈ lw_all := lw_g (lw_at lw_m5 41 rfl) rfl
theorem q1117 : (Jvm.Cond.fieldLink "TollOnVowelsModel" (126 : Nat) "TollOnVowelsModel" "typed" "I") ∈ lw_all := lw_g (lw_at lw_m5 42 rfl) rfl
theorem q1118 : (Jvm.Cond.fieldLink "TollOnVowelsModel" (33 : Nat) "TollOnVowelsModel" "row" "[J") ∈ lw_all := lw_g (lw_at lw_m5 43 rfl) rfl
theorem q1119 : (Jvm.Cond.fieldLink "TollOnVowelsModel" (113 : Nat) "TollOnVowelsModel" "rowMany" "I") ∈ lw_all := lw_g (lw_at lw_m5 44 rfl) rfl
theorem q1120 : (Jvm.Cond.fieldLink "TollOnVowelsModel" (110 : Nat) "TollOnVowelsModel" "thrown" "I") ∈ lw_all := lw_g (lw_at lw_m5 45 rfl) rfl
theorem q1121 : (Jvm.Cond.fieldLink "TollOnVowelsModel" (129 : Nat) "TollOnVowelsModel" "read" "[B") ∈ lw_all := lw_g (lw_at lw_m5 46 rfl) rfl
theorem q1122 : (Jvm.Cond.fieldLink "TollOnVowelsModel" (132 : Nat) "TollOnVowelsModel" "length" "I") ∈ lw_all := lw_g (lw_at lw_m5 47 rfl) rfl
theorem q1123 : (Jvm.Cond.fieldLink "TollOnVowelsModel" (135 : Nat) "TollOnVowelsModel" "top" "I") ∈ lw_all := lw_g (lw_at lw_m5 48 rfl) rfl
theorem q1124 : (Jvm.Cond.fieldLink "TollOnVowelsModel" (138 : Nat) "TollOnVowelsModel" "at" "I") ∈ lw_all := lw_g (lw_at lw_m5 49 rfl) rfl
theorem q1125 : (Jvm.Cond.fieldLink "TollOnVowelsModel" (141 : Nat) "TollOnVowelsModel" "wrong" "I") ∈ lw_all := lw_g (lw_at lw_m5 50 rfl) rfl
theorem q1126 : (Jvm.Cond.fieldLink "TollOnVowelsModel" (37 : Nat) "TollOnVowelsModel" "newLetters" "[B") ∈ lw_all := lw_g (lw_at lw_m5 51 rfl) rfl
theorem q1127 : (Jvm.Cond.fieldLink "TollOnVowelsModel" (40 : Nat) "TollOnVowelsModel" "newSize" "[I") ∈ lw_all := lw_g (lw_at lw_m5 52 rfl) rfl
theorem q1128 : (Jvm.Cond.fieldLink "TollOnVowelsModel" (43 : Nat) "TollOnVowelsModel" "comes" "[I") ∈ lw_all := lw_g (lw_at lw_m5 53 rfl) rfl
theorem q1129 : (Jvm.Cond.fieldLink "TollOnVowelsModel" (46 : Nat) "TollOnVowelsModel" "rule" "[B") ∈ lw_all := lw_g (lw_at lw_m5 54 rfl) rfl
theorem q1130 : (Jvm.Cond.fieldLink "TollOnVowelsModel" (49 : Nat) "TollOnVowelsModel" "otherRule" "[B") ∈ lw_all := lw_g (lw_at lw_m5 55 rfl) rfl
theorem q1131 : (Jvm.Cond.fieldLink "TollOnVowelsModel" (216 : Nat) "TollOnVowelsModel" "ruleSize" "I") ∈ lw_all := lw_g (lw_at lw_m5 56 rfl) rfl
theorem q1132 : (Jvm.Cond.fieldLink "TollOnVowelsModel" (209 : Nat) "TollOnVowelsModel" "isAsked" "Z") ∈ lw_all := lw_g (lw_at lw_m5 57 rfl) rfl
theorem q1133 : (Jvm.Cond.fieldLink "TollOnVowelsModel" (52 : Nat) "TollOnVowelsModel" "asked" "[I") ∈ lw_all := lw_g (lw_at lw_m5 58 rfl) rfl
theorem q1134 : (Jvm.Cond.fieldLink "TollOnVowelsModel" (55 : Nat) "TollOnVowelsModel" "byVowel" "[I") ∈ lw_all := lw_g (lw_at lw_m5 59 rfl) rfl
theorem q1135 : (Jvm.Cond.fieldLink "TollOnVowelsModel" (58 : Nat) "TollOnVowelsModel" "undos" "[I") ∈ lw_all := lw_g (lw_at lw_m5 60 rfl) rfl
theorem q1136 : (Jvm.Cond.fieldLink "TollOnVowelsModel" (171 : Nat) "TollOnVowelsModel" "undoMany" "I") ∈ lw_all := lw_g (lw_at lw_m5 61 rfl) rfl
theorem q1137 : (Jvm.Cond.fieldLink "TollOnVowelsModel" (61 : Nat) "TollOnVowelsModel" "aside" "[I") ∈ lw_all := lw_g (lw_at lw_m5 62 rfl) rfl
theorem q1138 : (Jvm.Cond.fieldLink "TollOnVowelsModel" (289 : Nat) "TollOnVowelsModel" "doneNow" "I") ∈ lw_all := lw_g (lw_at lw_m5 63 rfl) rfl
theorem q1139 : (Jvm.Cond.fieldLink "TollOnVowelsModel" (64 : Nat) "TollOnVowelsModel" "acts" "[I") ∈ lw_all := lw_g (lw_at lw_m5 64 rfl) rfl
theorem q1140 : (Jvm.Cond.fieldLink "TollOnVowelsModel" (304 : Nat) "TollOnVowelsModel" "paid" "I") ∈ lw_all := lw_g (lw_at lw_m5 65 rfl) rfl
theorem q1141 : (Jvm.Cond.fieldLink "TollOnVowelsModel" (67 : Nat) "TollOnVowelsModel" "least" "[I") ∈ lw_all := lw_g (lw_at lw_m5 66 rfl) rfl
theorem q1142 : (Jvm.Cond.fieldLink "TollOnVowelsModel" (70 : Nat) "TollOnVowelsModel" "one" "[I") ∈ lw_all := lw_g (lw_at lw_m5 67 rfl) rfl
theorem q1143 : (Jvm.Cond.fieldLink "TollOnVowelsModel" (73 : Nat) "TollOnVowelsModel" "other" "[I") ∈ lw_all := lw_g (lw_at lw_m5 68 rfl) rfl
theorem q1144 : (Jvm.Cond.fieldLink "TollOnVowelsModel" (76 : Nat) "TollOnVowelsModel" "changes" "[I") ∈ lw_all := lw_g (lw_at lw_m5 69 rfl) rfl
theorem q1145 : (Jvm.Cond.fieldLink "TollOnVowelsModel" (79 : Nat) "TollOnVowelsModel" "cost" "[I") ∈ lw_all := lw_g (lw_at lw_m5 70 rfl) rfl
theorem q1146 : (Jvm.Cond.fieldLink "TollOnVowelsModel" (82 : Nat) "TollOnVowelsModel" "nextCost" "[I") ∈ lw_all := lw_g (lw_at lw_m5 71 rfl) rfl
theorem q1147 : (Jvm.Cond.fieldLink "TollOnVowelsModel" (361 : Nat) "TollOnVowelsModel" "firstHour" "I") ∈ lw_all := lw_g (lw_at lw_m5 72 rfl) rfl
theorem q1148 : (Jvm.Cond.fieldLink "TollOnVowelsModel" (374 : Nat) "TollOnVowelsModel" "firstCost" "I") ∈ lw_all := lw_g (lw_at lw_m5 73 rfl) rfl
theorem q1149 : (Jvm.Cond.fieldLink "TollOnVowelsModel" (364 : Nat) "TollOnVowelsModel" "leastHour" "I") ∈ lw_all := lw_g (lw_at lw_m5 74 rfl) rfl
theorem q1150 : (Jvm.Cond.fieldLink "TollOnVowelsModel" (380 : Nat) "TollOnVowelsModel" "saidMany" "I") ∈ lw_all := lw_g (lw_at lw_m5 75 rfl) rfl
theorem q1151 : (Jvm.Cond.fieldLink "TollOnVowelsModel" (85 : Nat) "TollOnVowelsModel" "was" "[I") ∈ lw_all := lw_g (lw_at lw_m5 76 rfl) rfl
theorem q1152 : (Jvm.Cond.fieldLink "TollOnVowelsModel" (88 : Nat) "TollOnVowelsModel" "left" "[I") ∈ lw_all := lw_g (lw_at lw_m5 77 rfl) rfl
theorem q1153 : (Jvm.Cond.fieldLink "TollOnVowelsModel" (91 : Nat) "TollOnVowelsModel" "way" "[I") ∈ lw_all := lw_g (lw_at lw_m5 78 rfl) rfl
theorem q1154 : (Jvm.Cond.fieldLink "TollOnVowelsModel" (94 : Nat) "TollOnVowelsModel" "firstWay" "[I") ∈ lw_all := lw_g (lw_at lw_m5 79 rfl) rfl
theorem q1155 : (Jvm.Cond.fieldLink "TollOnVowelsModel" (389 : Nat) "TollOnVowelsModel" "firstMany" "I") ∈ lw_all := lw_g (lw_at lw_m5 80 rfl) rfl
theorem q1156 : (Jvm.Cond.fieldLink "TollOnVowelsModel" (386 : Nat) "TollOnVowelsModel" "ways" "I") ∈ lw_all := lw_g (lw_at lw_m5 81 rfl) rfl
theorem q1157 : (Jvm.Cond.fieldLink "TollOnVowelsModel" (404 : Nat) "TollOnVowelsModel" "drawn" "I") ∈ lw_all := lw_g (lw_at lw_m5 82 rfl) rfl
theorem q1158 : (Jvm.Cond.fieldLink "TollOnVowelsModel" (97 : Nat) "TollOnVowelsModel" "then" "[I") ∈ lw_all := lw_g (lw_at lw_m5 83 rfl) rfl
theorem q1159 : (Jvm.Cond.fieldLink "TollOnVowelsModel" (174 : Nat) "TollOnVowelsModel" "came" "I") ∈ lw_all := lw_g (lw_at lw_m5 84 rfl) rfl
theorem q1160 : (Jvm.Cond.fieldLink "TollOnVowelsModel" (100 : Nat) "TollOnVowelsModel" "kept" "[I") ∈ lw_all := lw_g (lw_at lw_m5 85 rfl) rfl
theorem q1161 : (Jvm.Cond.fieldLink "TollOnVowelsModel" (103 : Nat) "TollOnVowelsModel" "isKept" "[Z") ∈ lw_all := lw_g (lw_at lw_m5 86 rfl) rfl
theorem q1162 : (Jvm.Cond.fieldLink "TollOnVowelsModel" (107 : Nat) "TollOnVowelsModel" "keptCame" "[I") ∈ lw_all := lw_g (lw_at lw_m5 87 rfl) rfl
theorem q1163 : (Jvm.Cond.laysFinal "TollOnVowelsModel" "TollOnVowelsModel" "now" "[I") ∈ lw_all := lw_g (lw_at lw_m5 88 rfl) rfl
theorem q1164 : (Jvm.Cond.soleField "TollOnVowelsModel" "now") ∈ lw_all := lw_g (lw_at lw_m5 89 rfl) rfl
theorem q1165 : (Jvm.Cond.lays "TollOnVowelsModel" "TollOnVowelsModel" "stations" "I") ∈ lw_all := lw_g (lw_at lw_m5 90 rfl) rfl
theorem q1166 : (Jvm.Cond.soleField "TollOnVowelsModel" "stations") ∈ lw_all := lw_g (lw_at lw_m5 91 rfl) rfl
theorem q1167 : (Jvm.Cond.lays "TollOnVowelsModel" "TollOnVowelsModel" "words" "I") ∈ lw_all := lw_g (lw_at lw_m5 92 rfl) rfl
theorem q1168 : (Jvm.Cond.soleField "TollOnVowelsModel" "words") ∈ lw_all := lw_g (lw_at lw_m5 93 rfl) rfl
theorem q1169 : (Jvm.Cond.laysFinal "TollOnVowelsModel" "TollOnVowelsModel" "letters" "[B") ∈ lw_all := lw_g (lw_at lw_m5 94 rfl) rfl
theorem q1170 : (Jvm.Cond.soleField "TollOnVowelsModel" "letters") ∈ lw_all := lw_g (lw_at lw_m5 95 rfl) rfl
theorem q1171 : (Jvm.Cond.laysFinal "TollOnVowelsModel" "TollOnVowelsModel" "size" "[I") ∈ lw_all := lw_g (lw_at lw_m5 96 rfl) rfl
theorem q1172 : (Jvm.Cond.soleField "TollOnVowelsModel" "size") ∈ lw_all := lw_g (lw_at lw_m5 97 rfl) rfl
theorem q1173 : (Jvm.Cond.laysFinal "TollOnVowelsModel" "TollOnVowelsModel" "meaning" "[I") ∈ lw_all := lw_g (lw_at lw_m5 98 rfl) rfl
theorem q1174 : (Jvm.Cond.soleField "TollOnVowelsModel" "meaning") ∈ lw_all := lw_g (lw_at lw_m5 99 rfl) rfl
theorem q1175 : (Jvm.Cond.lays "TollOnVowelsModel" "TollOnVowelsModel" "travellers" "I") ∈ lw_all := lw_g (lw_at lw_m5 100 rfl) rfl
theorem q1176 : (Jvm.Cond.soleField "TollOnVowelsModel" "travellers") ∈ lw_all := lw_g (lw_at lw_m5 101 rfl) rfl
theorem q1177 : (Jvm.Cond.lays "TollOnVowelsModel" "TollOnVowelsModel" "errands" "I") ∈ lw_all := lw_g (lw_at lw_m5 102 rfl) rfl
theorem q1178 : (Jvm.Cond.soleField "TollOnVowelsModel" "errands") ∈ lw_all := lw_g (lw_at lw_m5 103 rfl) rfl
theorem q1179 : (Jvm.Cond.laysFinal "TollOnVowelsModel" "TollOnVowelsModel" "errand" "[I") ∈ lw_all := lw_g (lw_at lw_m5 104 rfl) rfl
theorem q1180 : (Jvm.Cond.soleField "TollOnVowelsModel" "errand") ∈ lw_all := lw_g (lw_at lw_m5 105 rfl) rfl
theorem q1181 : (Jvm.Cond.laysFinal "TollOnVowelsModel" "TollOnVowelsModel" "text" "[B") ∈ lw_all := lw_g (lw_at lw_m5 106 rfl) rfl
theorem q1182 : (Jvm.Cond.soleField "TollOnVowelsModel" "text") ∈ lw_all := lw_g (lw_at lw_m5 107 rfl) rfl
theorem q1183 : (Jvm.Cond.lays "TollOnVowelsModel" "TollOnVowelsModel" "typed" "I") ∈ lw_all := lw_g (lw_at lw_m5 108 rfl) rfl
theorem q1184 : (Jvm.Cond.soleField "TollOnVowelsModel" "typed") ∈ lw_all := lw_g (lw_at lw_m5 109 rfl) rfl
theorem q1185 : (Jvm.Cond.laysFinal "TollOnVowelsModel" "TollOnVowelsModel" "row" "[J") ∈ lw_all := lw_g (lw_at lw_m5 110 rfl) rfl
theorem q1186 : (Jvm.Cond.soleField "TollOnVowelsModel" "row") ∈ lw_all := lw_g (lw_at lw_m5 111 rfl) rfl
theorem q1187 : (Jvm.Cond.lays "TollOnVowelsModel" "TollOnVowelsModel" "rowMany" "I") ∈ lw_all := lw_g (lw_at lw_m5 112 rfl) rfl
theorem q1188 : (Jvm.Cond.soleField "TollOnVowelsModel" "rowMany") ∈ lw_all := lw_g (lw_at lw_m5 113 rfl) rfl
theorem q1189 : (Jvm.Cond.lays "TollOnVowelsModel" "TollOnVowelsModel" "thrown" "I") ∈ lw_all := lw_g (lw_at lw_m5 114 rfl) rfl
theorem q1190 : (Jvm.Cond.soleField "TollOnVowelsModel" "thrown") ∈ lw_all := lw_g (lw_at lw_m5 115 rfl) rfl
theorem q1191 : (Jvm.Cond.lays "TollOnVowelsModel" "TollOnVowelsModel" "read" "[B") ∈ lw_all := lw_g (lw_at lw_m5 116 rfl) rfl
theorem q1192 : (Jvm.Cond.soleField "TollOnVowelsModel" "read") ∈ lw_all := lw_g (lw_at lw_m5 117 rfl) rfl
theorem q1193 : (Jvm.Cond.lays "TollOnVowelsModel" "TollOnVowelsModel" "length" "I") ∈ lw_all := lw_g (lw_at lw_m5 118 rfl) rfl
theorem q1194 : (Jvm.Cond.soleField "TollOnVowelsModel" "length") ∈ lw_all := lw_g (lw_at lw_m5 119 rfl) rfl
theorem q1195 : (Jvm.Cond.lays "TollOnVowelsModel" "TollOnVowelsModel" "top" "I") ∈ lw_all := lw_g (lw_at lw_m5 120 rfl) rfl
theorem q1196 : (Jvm.Cond.soleField "TollOnVowelsModel" "top") ∈ lw_all := lw_g (lw_at lw_m5 121 rfl) rfl
theorem q1197 : (Jvm.Cond.lays "TollOnVowelsModel" "TollOnVowelsModel" "at" "I") ∈ lw_all := lw_g (lw_at lw_m5 122 rfl) rfl
theorem q1198 : (Jvm.Cond.soleField "TollOnVowelsModel" "at") ∈ lw_all := lw_g (lw_at lw_m5 123 rfl) rfl
theorem q1199 : (Jvm.Cond.lays "TollOnVowelsModel" "TollOnVowelsModel" "wrong" "I") ∈ lw_all := lw_g (lw_at lw_m5 124 rfl) rfl
theorem q1200 : (Jvm.Cond.soleField "TollOnVowelsModel" "wrong") ∈ lw_all := lw_g (lw_at lw_m5 125 rfl) rfl
theorem q1201 : (Jvm.Cond.laysFinal "TollOnVowelsModel" "TollOnVowelsModel" "newLetters" "[B") ∈ lw_all := lw_g (lw_at lw_m5 126 rfl) rfl
theorem q1202 : (Jvm.Cond.soleField "TollOnVowelsModel" "newLetters") ∈ lw_all := lw_g (lw_at lw_m5 127 rfl) rfl
theorem q1203 : (Jvm.Cond.laysFinal "TollOnVowelsModel" "TollOnVowelsModel" "newSize" "[I") ∈ lw_all := lw_g (lw_at lw_m5 128 rfl) rfl
theorem q1204 : (Jvm.Cond.soleField "TollOnVowelsModel" "newSize") ∈ lw_all := lw_g (lw_at lw_m5 129 rfl) rfl
theorem q1205 : (Jvm.Cond.laysFinal "TollOnVowelsModel" "TollOnVowelsModel" "comes" "[I") ∈ lw_all := lw_g (lw_at lw_m5 130 rfl) rfl
theorem q1206 : (Jvm.Cond.soleField "TollOnVowelsModel" "comes") ∈ lw_all := lw_g (lw_at lw_m5 131 rfl) rfl
theorem q1207 : (Jvm.Cond.lays "TollOnVowelsModel" "TollOnVowelsModel" "rule" "[B") ∈ lw_all := lw_g (lw_at lw_m5 132 rfl) rfl
theorem q1208 : (Jvm.Cond.soleField "TollOnVowelsModel" "rule") ∈ lw_all := lw_g (lw_at lw_m5 133 rfl) rfl
theorem q1209 : (Jvm.Cond.lays "TollOnVowelsModel" "TollOnVowelsModel" "otherRule" "[B") ∈ lw_all := lw_g (lw_at lw_m5 134 rfl) rfl
theorem q1210 : (Jvm.Cond.soleField "TollOnVowelsModel" "otherRule") ∈ lw_all := lw_g (lw_at lw_m5 135 rfl) rfl
theorem q1211 : (Jvm.Cond.lays "TollOnVowelsModel" "TollOnVowelsModel" "ruleSize" "I") ∈ lw_all := lw_g (lw_at lw_m5 136 rfl) rfl
theorem q1212 : (Jvm.Cond.soleField "TollOnVowelsModel" "ruleSize") ∈ lw_all := lw_g (lw_at lw_m5 137 rfl) rfl
theorem q1213 : (Jvm.Cond.lays "TollOnVowelsModel" "TollOnVowelsModel" "isAsked" "Z") ∈ lw_all := lw_g (lw_at lw_m5 138 rfl) rfl
theorem q1214 : (Jvm.Cond.soleField "TollOnVowelsModel" "isAsked") ∈ lw_all := lw_g (lw_at lw_m5 139 rfl) rfl
theorem q1215 : (Jvm.Cond.laysFinal "TollOnVowelsModel" "TollOnVowelsModel" "asked" "[I") ∈ lw_all := lw_g (lw_at lw_m5 140 rfl) rfl
theorem q1216 : (Jvm.Cond.soleField "TollOnVowelsModel" "asked") ∈ lw_all := lw_g (lw_at lw_m5 141 rfl) rfl
theorem q1217 : (Jvm.Cond.laysFinal "TollOnVowelsModel" "TollOnVowelsModel" "byVowel" "[I") ∈ lw_all := lw_g (lw_at lw_m5 142 rfl) rfl
theorem q1218 : (Jvm.Cond.soleField "TollOnVowelsModel" "byVowel") ∈ lw_all := lw_g (lw_at lw_m5 143 rfl) rfl
theorem q1219 : (Jvm.Cond.laysFinal "TollOnVowelsModel" "TollOnVowelsModel" "undos" "[I") ∈ lw_all := lw_g (lw_at lw_m5 144 rfl) rfl
theorem q1220 : (Jvm.Cond.soleField "TollOnVowelsModel" "undos") ∈ lw_all := lw_g (lw_at lw_m5 145 rfl) rfl
theorem q1221 : (Jvm.Cond.lays "TollOnVowelsModel" "TollOnVowelsModel" "undoMany" "I") ∈ lw_all := lw_g (lw_at lw_m5 146 rfl) rfl
theorem q1222 : (Jvm.Cond.soleField "TollOnVowelsModel" "undoMany") ∈ lw_all := lw_g (lw_at lw_m5 147 rfl) rfl
theorem q1223 : (Jvm.Cond.laysFinal "TollOnVowelsModel" "TollOnVowelsModel" "aside" "[I") ∈ lw_all := lw_g (lw_at lw_m5 148 rfl) rfl
theorem q1224 : (Jvm.Cond.soleField "TollOnVowelsModel" "aside") ∈ lw_all := lw_g (lw_at lw_m5 149 rfl) rfl
theorem q1225 : (Jvm.Cond.lays "TollOnVowelsModel" "TollOnVowelsModel" "doneNow" "I") ∈ lw_all := lw_g (lw_at lw_m5 150 rfl) rfl
theorem q1226 : (Jvm.Cond.soleField "TollOnVowelsModel" "doneNow") ∈ lw_all := lw_g (lw_at lw_m5 151 rfl) rfl
theorem q1227 : (Jvm.Cond.laysFinal "TollOnVowelsModel" "TollOnVowelsModel" "acts" "[I") ∈ lw_all := lw_g (lw_at lw_m5 152 rfl) rfl
theorem q1228 : (Jvm.Cond.soleField "TollOnVowelsModel" "acts") ∈ lw_all := lw_g (lw_at lw_m5 153 rfl) rfl
theorem q1229 : (Jvm.Cond.lays "TollOnVowelsModel" "TollOnVowelsModel" "paid" "I") ∈ lw_all := lw_g (lw_at lw_m5 154 rfl) rfl
theorem q1230 : (Jvm.Cond.soleField "TollOnVowelsModel" "paid") ∈ lw_all := lw_g (lw_at lw_m5 155 rfl) rfl
theorem q1231 : (Jvm.Cond.laysFinal "TollOnVowelsModel" "TollOnVowelsModel" "least" "[I") ∈ lw_all := lw_g (lw_at lw_m5 156 rfl) rfl
theorem q1232 : (Jvm.Cond.soleField "TollOnVowelsModel" "least") ∈ lw_all := lw_g (lw_at lw_m5 157 rfl) rfl
theorem q1233 : (Jvm.Cond.laysFinal "TollOnVowelsModel" "TollOnVowelsModel" "one" "[I") ∈ lw_all := lw_g (lw_at lw_m5 158 rfl) rfl
theorem q1234 : (Jvm.Cond.soleField "TollOnVowelsModel" "one") ∈ lw_all := lw_g (lw_at lw_m5 159 rfl) rfl
theorem q1235 : (Jvm.Cond.laysFinal "TollOnVowelsModel" "TollOnVowelsModel" "other" "[I") ∈ lw_all := lw_g (lw_at lw_m5 160 rfl) rfl
theorem q1236 : (Jvm.Cond.soleField "TollOnVowelsModel" "other") ∈ lw_all := lw_g (lw_at lw_m5 161 rfl) rfl
theorem q1237 : (Jvm.Cond.laysFinal "TollOnVowelsModel" "TollOnVowelsModel" "changes" "[I") ∈ lw_all := lw_g (lw_at lw_m5 162 rfl) rfl
theorem q1238 : (Jvm.Cond.soleField "TollOnVowelsModel" "changes") ∈ lw_all := lw_g (lw_at lw_m5 163 rfl) rfl
theorem q1239 : (Jvm.Cond.laysFinal "TollOnVowelsModel" "TollOnVowelsModel" "cost" "[I") ∈ lw_all := lw_g (lw_at lw_m5 164 rfl) rfl
theorem q1240 : (Jvm.Cond.soleField "TollOnVowelsModel" "cost") ∈ lw_all := lw_g (lw_at lw_m5 165 rfl) rfl
theorem q1241 : (Jvm.Cond.laysFinal "TollOnVowelsModel" "TollOnVowelsModel" "nextCost" "[I") ∈ lw_all := lw_g (lw_at lw_m5 166 rfl) rfl
theorem q1242 : (Jvm.Cond.soleField "TollOnVowelsModel" "nextCost") ∈ lw_all := lw_g (lw_at lw_m5 167 rfl) rfl
theorem q1243 : (Jvm.Cond.lays "TollOnVowelsModel" "TollOnVowelsModel" "firstHour" "I") ∈ lw_all := lw_g (lw_at lw_m5 168 rfl) rfl
theorem q1244 : (Jvm.Cond.soleField "TollOnVowelsModel" "firstHour") ∈ lw_all := lw_g (lw_at lw_m5 169 rfl) rfl
theorem q1245 : (Jvm.Cond.lays "TollOnVowelsModel" "TollOnVowelsModel" "firstCost" "I") ∈ lw_all := lw_g (lw_at lw_m5 170 rfl) rfl
theorem q1246 : (Jvm.Cond.soleField "TollOnVowelsModel" "firstCost") ∈ lw_all := lw_g (lw_at lw_m5 171 rfl) rfl
theorem q1247 : (Jvm.Cond.lays "TollOnVowelsModel" "TollOnVowelsModel" "leastHour" "I") ∈ lw_all := lw_g (lw_at lw_m5 172 rfl) rfl
theorem q1248 : (Jvm.Cond.soleField "TollOnVowelsModel" "leastHour") ∈ lw_all := lw_g (lw_at lw_m5 173 rfl) rfl
theorem q1249 : (Jvm.Cond.lays "TollOnVowelsModel" "TollOnVowelsModel" "saidMany" "I") ∈ lw_all := lw_g (lw_at lw_m5 174 rfl) rfl
theorem q1250 : (Jvm.Cond.soleField "TollOnVowelsModel" "saidMany") ∈ lw_all := lw_g (lw_at lw_m5 175 rfl) rfl
theorem q1251 : (Jvm.Cond.laysFinal "TollOnVowelsModel" "TollOnVowelsModel" "was" "[I") ∈ lw_all := lw_g (lw_at lw_m5 176 rfl) rfl
theorem q1252 : (Jvm.Cond.soleField "TollOnVowelsModel" "was") ∈ lw_all := lw_g (lw_at lw_m5 177 rfl) rfl
theorem q1253 : (Jvm.Cond.laysFinal "TollOnVowelsModel" "TollOnVowelsModel" "left" "[I") ∈ lw_all := lw_g (lw_at lw_m5 178 rfl) rfl
theorem q1254 : (Jvm.Cond.soleField "TollOnVowelsModel" "left") ∈ lw_all := lw_g (lw_at lw_m5 179 rfl) rfl
theorem q1255 : (Jvm.Cond.laysFinal "TollOnVowelsModel" "TollOnVowelsModel" "way" "[I") ∈ lw_all := lw_g (lw_at lw_m5 180 rfl) rfl
theorem q1256 : (Jvm.Cond.soleField "TollOnVowelsModel" "way") ∈ lw_all := lw_g (lw_at lw_m5 181 rfl) rfl
theorem q1257 : (Jvm.Cond.laysFinal "TollOnVowelsModel" "TollOnVowelsModel" "firstWay" "[I") ∈ lw_all := lw_g (lw_at lw_m5 182 rfl) rfl
theorem q1258 : (Jvm.Cond.soleField "TollOnVowelsModel" "firstWay") ∈ lw_all := lw_g (lw_at lw_m5 183 rfl) rfl
theorem q1259 : (Jvm.Cond.lays "TollOnVowelsModel" "TollOnVowelsModel" "firstMany" "I") ∈ lw_all := lw_g (lw_at lw_m5 184 rfl) rfl
theorem q1260 : (Jvm.Cond.soleField "TollOnVowelsModel" "firstMany") ∈ lw_all := lw_g (lw_at lw_m5 185 rfl) rfl
theorem q1261 : (Jvm.Cond.lays "TollOnVowelsModel" "TollOnVowelsModel" "ways" "I") ∈ lw_all := lw_g (lw_at lw_m5 186 rfl) rfl
theorem q1262 : (Jvm.Cond.soleField "TollOnVowelsModel" "ways") ∈ lw_all := lw_g (lw_at lw_m5 187 rfl) rfl
theorem q1263 : (Jvm.Cond.lays "TollOnVowelsModel" "TollOnVowelsModel" "drawn" "I") ∈ lw_all := lw_g (lw_at lw_m5 188 rfl) rfl
theorem q1264 : (Jvm.Cond.soleField "TollOnVowelsModel" "drawn") ∈ lw_all := lw_g (lw_at lw_m5 189 rfl) rfl
theorem q1265 : (Jvm.Cond.laysFinal "TollOnVowelsModel" "TollOnVowelsModel" "then" "[I") ∈ lw_all := lw_g (lw_at lw_m5 190 rfl) rfl
theorem q1266 : (Jvm.Cond.soleField "TollOnVowelsModel" "then") ∈ lw_all := lw_g (lw_at lw_m5 191 rfl) rfl
theorem q1267 : (Jvm.Cond.lays "TollOnVowelsModel" "TollOnVowelsModel" "came" "I") ∈ lw_all := lw_g (lw_at lw_m5 192 rfl) rfl
theorem q1268 : (Jvm.Cond.soleField "TollOnVowelsModel" "came") ∈ lw_all := lw_g (lw_at lw_m5 193 rfl) rfl
theorem q1269 : (Jvm.Cond.laysFinal "TollOnVowelsModel" "TollOnVowelsModel" "kept" "[I") ∈ lw_all := lw_g (lw_at lw_m5 194 rfl) rfl
theorem q1270 : (Jvm.Cond.soleField "TollOnVowelsModel" "kept") ∈ lw_all := lw_g (lw_at lw_m5 195 rfl) rfl
theorem q1271 : (Jvm.Cond.laysFinal "TollOnVowelsModel" "TollOnVowelsModel" "isKept" "[Z") ∈ lw_all := lw_g (lw_at lw_m5 196 rfl) rfl
theorem q1272 : (Jvm.Cond.soleField "TollOnVowelsModel" "isKept") ∈ lw_all := lw_g (lw_at lw_m5 197 rfl) rfl
theorem q1273 : (Jvm.Cond.laysFinal "TollOnVowelsModel" "TollOnVowelsModel" "keptCame" "[I") ∈ lw_all := lw_g (lw_at lw_m5 198 rfl) rfl
theorem q1274 : (Jvm.Cond.soleField "TollOnVowelsModel" "keptCame") ∈ lw_all := lw_g (lw_at lw_m5 199 rfl) rfl
theorem q1275 : (Jvm.Cond.superclass "TollOnVowelsModel" "java/lang/Object") ∈ lw_all := lw_g (lw_at lw_m5 200 rfl) rfl
theorem q1278 : (Jvm.Cond.instanceMethod ({ cls := "TollOnVowelsModel", name := "thrown", desc := "()I" } : Jvm.MethodName)) ∈ lw_all := lw_g (lw_at lw_m5 203 rfl) rfl
theorem q1279 : (Jvm.Cond.selects "TollOnVowelsModel" ({ cls := "TollOnVowelsModel", name := "thrown", desc := "()I" } : Jvm.MethodName) ({ cls := "TollOnVowelsModel", name := "thrown", desc := "()I" } : Jvm.MethodName)) ∈ lw_all := lw_g (lw_at lw_m5 204 rfl) rfl
theorem q1280 : (Jvm.Cond.code ({ cls := "TollOnVowelsModel", name := "thrown", desc := "()I" } : Jvm.MethodName) prog_9_method_2_code (1 : Nat) (Option.some Jvm.ClassFile.FieldType.int)) ∈ lw_all := lw_g (lw_at lw_m5 205 rfl) rfl
theorem q1282 : (Jvm.Cond.instanceMethod ({ cls := "TollOnVowelsModel", name := "sign", desc := "(I)I" } : Jvm.MethodName)) ∈ lw_all := lw_g (lw_at lw_m5 207 rfl) rfl
theorem q1283 : (Jvm.Cond.selects "TollOnVowelsModel" ({ cls := "TollOnVowelsModel", name := "sign", desc := "(I)I" } : Jvm.MethodName) ({ cls := "TollOnVowelsModel", name := "sign", desc := "(I)I" } : Jvm.MethodName)) ∈ lw_all := lw_g (lw_at lw_m5 208 rfl) rfl
theorem q1284 : (Jvm.Cond.code ({ cls := "TollOnVowelsModel", name := "sign", desc := "(I)I" } : Jvm.MethodName) prog_9_method_11_code (3 : Nat) (Option.some Jvm.ClassFile.FieldType.int)) ∈ lw_all := lw_g (lw_at lw_m5 209 rfl) rfl
theorem q1286 : (Jvm.Cond.instanceMethod ({ cls := "TollOnVowelsModel", name := "end", desc := "(I)Z" } : Jvm.MethodName)) ∈ lw_all := lw_g (lw_at lw_m5 211 rfl) rfl
theorem q1287 : (Jvm.Cond.selects "TollOnVowelsModel" ({ cls := "TollOnVowelsModel", name := "end", desc := "(I)Z" } : Jvm.MethodName) ({ cls := "TollOnVowelsModel", name := "end", desc := "(I)Z" } : Jvm.MethodName)) ∈ lw_all := lw_g (lw_at lw_m5 212 rfl) rfl
theorem q1288 : (Jvm.Cond.code ({ cls := "TollOnVowelsModel", name := "end", desc := "(I)Z" } : Jvm.MethodName) prog_9_method_12_code (2 : Nat) (Option.some Jvm.ClassFile.FieldType.boolean)) ∈ lw_all := lw_g (lw_at lw_m5 213 rfl) rfl
theorem q1289 : (Jvm.Cond.methodLink "TollOnVowelsModel" (116 : Nat) ({ cls := "TollOnVowelsModel", name := "in", desc := "(III)Z" } : Jvm.MethodName)) ∈ lw_all := lw_g (lw_at lw_m5 214 rfl) rfl
theorem q1290 : (Jvm.Cond.static ({ cls := "TollOnVowelsModel", name := "in", desc := "(III)Z" } : Jvm.MethodName)) ∈ lw_all := lw_g (lw_at lw_m5 215 rfl) rfl
theorem q1291 : (Jvm.Cond.code ({ cls := "TollOnVowelsModel", name := "in", desc := "(III)Z" } : Jvm.MethodName) prog_9_method_3_code (3 : Nat) (Option.some Jvm.ClassFile.FieldType.boolean)) ∈ lw_all := lw_g (lw_at lw_m5 216 rfl) rfl
theorem q1293 : (Jvm.Cond.instanceMethod ({ cls := "TollOnVowelsModel", name := "road", desc := "(I)I" } : Jvm.MethodName)) ∈ lw_all := lw_g (lw_at lw_m5 218 rfl) rfl
theorem q1294 : (Jvm.Cond.selects "TollOnVowelsModel" ({ cls := "TollOnVowelsModel", name := "road", desc := "(I)I" } : Jvm.MethodName) ({ cls := "TollOnVowelsModel", name := "road", desc := "(I)I" } : Jvm.MethodName)) ∈ lw_all := lw_g (lw_at lw_m5 219 rfl) rfl
theorem q1295 : (Jvm.Cond.code ({ cls := "TollOnVowelsModel", name := "road", desc := "(I)I" } : Jvm.MethodName) prog_9_method_23_code (4 : Nat) (Option.some Jvm.ClassFile.FieldType.int)) ∈ lw_all := lw_g (lw_at lw_m5 220 rfl) rfl
theorem q1297 : (Jvm.Cond.instanceMethod ({ cls := "TollOnVowelsModel", name := "words", desc := "()I" } : Jvm.MethodName)) ∈ lw_all := lw_g (lw_at lw_m5 222 rfl) rfl
theorem q1298 : (Jvm.Cond.selects "TollOnVowelsModel" ({ cls := "TollOnVowelsModel", name := "words", desc := "()I" } : Jvm.MethodName) ({ cls := "TollOnVowelsModel", name := "words", desc := "()I" } : Jvm.MethodName)) ∈ lw_all := lw_g (lw_at lw_m5 223 rfl) rfl
theorem q1299 : (Jvm.Cond.code ({ cls := "TollOnVowelsModel", name := "words", desc := "()I" } : Jvm.MethodName) prog_9_method_25_code (5 : Nat) (Option.some Jvm.ClassFile.FieldType.int)) ∈ lw_all := lw_g (lw_at lw_m5 224 rfl) rfl
theorem q1300 : (Jvm.Cond.methodLink "TollOnVowelsModel" (177 : Nat) ({ cls := "TollOnVowelsModel", name := "beginText", desc := "(I)V" } : Jvm.MethodName)) ∈ lw_all := lw_g (lw_at lw_m5 225 rfl) rfl
theorem q1301 : (Jvm.Cond.privateMethod ({ cls := "TollOnVowelsModel", name := "beginText", desc := "(I)V" } : Jvm.MethodName)) ∈ lw_tbl := lw_at lw_m5 226 rfl
theorem q1302 : (Jvm.Cond.instanceMethod ({ cls := "TollOnVowelsModel", name := "beginText", desc := "(I)V" } : Jvm.MethodName)) ∈ lw_all := lw_g (lw_at lw_m5 227 rfl) rfl
theorem q1303 : (Jvm.Cond.code ({ cls := "TollOnVowelsModel", name := "beginText", desc := "(I)V" } : Jvm.MethodName) prog_9_method_14_code (2 : Nat) (Option.none : Option Jvm.ClassFile.FieldType)) ∈ lw_all := lw_g (lw_at lw_m5 228 rfl) rfl
theorem q1304 : (Jvm.Cond.methodLink "TollOnVowelsModel" (144 : Nat) ({ cls := "TollOnVowelsModel", name := "begin", desc := "([BII)V" } : Jvm.MethodName)) ∈ lw_all := lw_g (lw_at lw_m5 229 rfl) rfl
theorem q1305 : (Jvm.Cond.privateMethod ({ cls := "TollOnVowelsModel", name := "begin", desc := "([BII)V" } : Jvm.MethodName)) ∈ lw_tbl := lw_at lw_m5 230 rfl
theorem q1306 : (Jvm.Cond.instanceMethod ({ cls := "TollOnVowelsModel", name := "begin", desc := "([BII)V" } : Jvm.MethodName)) ∈ lw_all := lw_g (lw_at lw_m5 231 rfl) rfl
theorem q1307 : (Jvm.Cond.code ({ cls := "TollOnVowelsModel", name := "begin", desc := "([BII)V" } : Jvm.MethodName) prog_9_method_13_code (4 : Nat) (Option.none : Option Jvm.ClassFile.FieldType)) ∈ lw_all := lw_g (lw_at lw_m5 232 rfl) rfl
theorem q1308 : (Jvm.Cond.methodLink "TollOnVowelsModel" (148 : Nat) ({ cls := "TollOnVowelsModel", name := "fine", desc := "()Z" } : Jvm.MethodName)) ∈ lw_all := lw_g (lw_at lw_m5 233 rfl) rfl
theorem q1309 : (Jvm.Cond.privateMethod ({ cls := "TollOnVowelsModel", name := "fine", desc := "()Z" } : Jvm.MethodName)) ∈ lw_tbl := lw_at lw_m5 234 rfl
theorem q1310 : (Jvm.Cond.instanceMethod ({ cls := "TollOnVowelsModel", name := "fine", desc := "()Z" } : Jvm.MethodName)) ∈ lw_all := lw_g (lw_at lw_m5 235 rfl) rfl
theorem q1311 : (Jvm.Cond.code ({ cls := "TollOnVowelsModel", name := "fine", desc := "()Z" } : Jvm.MethodName) prog_9_method_16_code (1 : Nat) (Option.some Jvm.ClassFile.FieldType.boolean)) ∈ lw_all := lw_g (lw_at lw_m5 236 rfl) rfl
theorem q1312 : (Jvm.Cond.methodLink "TollOnVowelsModel" (160 : Nat) ({ cls := "TollOnVowelsModel", name := "fault", desc := "(I)V" } : Jvm.MethodName)) ∈ lw_all := lw_g (lw_at lw_m5 237 rfl) rfl
theorem q1313 : (Jvm.Cond.privateMethod ({ cls := "TollOnVowelsModel", name := "fault", desc := "(I)V" } : Jvm.MethodName)) ∈ lw_tbl := lw_at lw_m5 238 rfl
theorem q1314 : (Jvm.Cond.instanceMethod ({ cls := "TollOnVowelsModel", name := "fault", desc := "(I)V" } : Jvm.MethodName)) ∈ lw_all := lw_g (lw_at lw_m5 239 rfl) rfl
theorem q1315 : (Jvm.Cond.code ({ cls := "TollOnVowelsModel", name := "fault", desc := "(I)V" } : Jvm.MethodName) prog_9_method_17_code (2 : Nat) (Option.none : Option Jvm.ClassFile.FieldType)) ∈ lw_all := lw_g (lw_at lw_m6 0 rfl) rfl
theorem q1316 : (Jvm.Cond.methodLink "TollOnVowelsModel" (180 : Nat) ({ cls := "TollOnVowelsModel", name := "readWord", desc := "(I)V" } : Jvm.MethodName)) ∈ lw_all := lw_g (lw_at lw_m6 1 rfl) rfl
theorem q1317 : (Jvm.Cond.privateMethod ({ cls := "TollOnVowelsModel", name := "readWord", desc := "(I)V" } : Jvm.MethodName)) ∈ lw_tbl := lw_at lw_m6 2 rfl
theorem q1318 : (Jvm.Cond.instanceMethod ({ cls := "TollOnVowelsModel", name := "readWord", desc := "(I)V" } : Jvm.MethodName)) ∈ lw_all := lw_g (lw_at lw_m6 3 rfl) rfl
theorem q1319 : (Jvm.Cond.code ({ cls := "TollOnVowelsModel", name := "readWord", desc := "(I)V" } : Jvm.MethodName) prog_9_method_24_code (2 : Nat) (Option.none : Option Jvm.ClassFile.FieldType)) ∈ lw_all := lw_g (lw_at lw_m6 4 rfl) rfl
theorem q1320 : (Jvm.Cond.methodLink "TollOnVowelsModel" (164 : Nat) ({ cls := "TollOnVowelsModel", name := "oneOf", desc := "(CI)I" } : Jvm.MethodName)) ∈ lw_all := lw_g (lw_at lw_m6 5 rfl) rfl
theorem q1321 : (Jvm.Cond.privateMethod ({ cls := "TollOnVowelsModel", name := "oneOf", desc := "(CI)I" } : Jvm.MethodName)) ∈ lw_tbl := lw_at lw_m6 6 rfl
theorem q1322 : (Jvm.Cond.instanceMethod ({ cls := "TollOnVowelsModel", name := "oneOf", desc := "(CI)I" } : Jvm.MethodName)) ∈ lw_all := lw_g (lw_at lw_m6 7 rfl) rfl
theorem q1323 : (Jvm.Cond.code ({ cls := "TollOnVowelsModel", name := "oneOf", desc := "(CI)I" } : Jvm.MethodName) prog_9_method_20_code (3 : Nat) (Option.some Jvm.ClassFile.FieldType.int)) ∈ lw_all := lw_g (lw_at lw_m6 8 rfl) rfl
theorem q1324 : (Jvm.Cond.methodLink "TollOnVowelsModel" (152 : Nat) ({ cls := "TollOnVowelsModel", name := "here", desc := "()I" } : Jvm.MethodName)) ∈ lw_all := lw_g (lw_at lw_m6 9 rfl) rfl
theorem q1325 : (Jvm.Cond.privateMethod ({ cls := "TollOnVowelsModel", name := "here", desc := "()I" } : Jvm.MethodName)) ∈ lw_tbl := lw_at lw_m6 10 rfl
theorem q1326 : (Jvm.Cond.instanceMethod ({ cls := "TollOnVowelsModel", name := "here", desc := "()I" } : Jvm.MethodName)) ∈ lw_all := lw_g (lw_at lw_m6 11 rfl) rfl
theorem q1327 : (Jvm.Cond.code ({ cls := "TollOnVowelsModel", name := "here", desc := "()I" } : Jvm.MethodName) prog_9_method_15_code (1 : Nat) (Option.some Jvm.ClassFile.FieldType.int)) ∈ lw_all := lw_g (lw_at lw_m6 12 rfl) rfl
theorem q1328 : (Jvm.Cond.methodLink "TollOnVowelsModel" (156 : Nat) ({ cls := "TollOnVowelsModel", name := "passes", desc := "(C)Z" } : Jvm.MethodName)) ∈ lw_all := lw_g (lw_at lw_m6 13 rfl) rfl
theorem q1329 : (Jvm.Cond.privateMethod ({ cls := "TollOnVowelsModel", name := "passes", desc := "(C)Z" } : Jvm.MethodName)) ∈ lw_tbl := lw_at lw_m6 14 rfl
theorem q1330 : (Jvm.Cond.instanceMethod ({ cls := "TollOnVowelsModel", name := "passes", desc := "(C)Z" } : Jvm.MethodName)) ∈ lw_all := lw_g (lw_at lw_m6 15 rfl) rfl
theorem q1331 : (Jvm.Cond.code ({ cls := "TollOnVowelsModel", name := "passes", desc := "(C)Z" } : Jvm.MethodName) prog_9_method_18_code (2 : Nat) (Option.some Jvm.ClassFile.FieldType.boolean)) ∈ lw_all := lw_g (lw_at lw_m6 16 rfl) rfl
theorem q1332 : (Jvm.Cond.methodLink "TollOnVowelsModel" (183 : Nat) ({ cls := "TollOnVowelsModel", name := "wasRight", desc := "()Z" } : Jvm.MethodName)) ∈ lw_all := lw_g (lw_at lw_m6 17 rfl) rfl
theorem q1333 : (Jvm.Cond.privateMethod ({ cls := "TollOnVowelsModel", name := "wasRight", desc := "()Z" } : Jvm.MethodName)) ∈ lw_tbl := lw_at lw_m6 18 rfl
theorem q1334 : (Jvm.Cond.instanceMethod ({ cls := "TollOnVowelsModel", name := "wasRight", desc := "()Z" } : Jvm.MethodName)) ∈ lw_all := lw_g (lw_at lw_m6 19 rfl) rfl
theorem q1335 : (Jvm.Cond.code ({ cls := "TollOnVowelsModel", name := "wasRight", desc := "()Z" } : Jvm.MethodName) prog_9_method_22_code (1 : Nat) (Option.some Jvm.ClassFile.FieldType.boolean)) ∈ lw_all := lw_g (lw_at lw_m6 20 rfl) rfl
theorem q1337 : (Jvm.Cond.instanceMethod ({ cls := "TollOnVowelsModel", name := "travellers", desc := "()I" } : Jvm.MethodName)) ∈ lw_all := lw_g (lw_at lw_m6 22 rfl) rfl
theorem q1338 : (Jvm.Cond.selects "TollOnVowelsModel" ({ cls := "TollOnVowelsModel", name := "travellers", desc := "()I" } : Jvm.MethodName) ({ cls := "TollOnVowelsModel", name := "travellers", desc := "()I" } : Jvm.MethodName)) ∈ lw_all := lw_g (lw_at lw_m6 23 rfl) rfl
theorem q1339 : (Jvm.Cond.code ({ cls := "TollOnVowelsModel", name := "travellers", desc := "()I" } : Jvm.MethodName) prog_9_method_26_code (4 : Nat) (Option.some Jvm.ClassFile.FieldType.int)) ∈ lw_all := lw_g (lw_at lw_m6 24 rfl) rfl
theorem q1340 : (Jvm.Cond.methodLink "TollOnVowelsModel" (186 : Nat) ({ cls := "TollOnVowelsModel", name := "need", desc := "(C)V" } : Jvm.MethodName)) ∈ lw_all := lw_g (lw_at lw_m6 25 rfl) rfl
theorem q1341 : (Jvm.Cond.privateMethod ({ cls := "TollOnVowelsModel", name := "need", desc := "(C)V" } : Jvm.MethodName)) ∈ lw_tbl := lw_at lw_m6 26 rfl
theorem q1342 : (Jvm.Cond.instanceMethod ({ cls := "TollOnVowelsModel", name := "need", desc := "(C)V" } : Jvm.MethodName)) ∈ lw_all := lw_g (lw_at lw_m6 27 rfl) rfl
theorem q1343 : (Jvm.Cond.code ({ cls := "TollOnVowelsModel", name := "need", desc := "(C)V" } : Jvm.MethodName) prog_9_method_19_code (2 : Nat) (Option.none : Option Jvm.ClassFile.FieldType)) ∈ lw_all := lw_g (lw_at lw_m6 28 rfl) rfl
theorem q1344 : (Jvm.Cond.methodLink "TollOnVowelsModel" (190 : Nat) ({ cls := "TollOnVowelsModel", name := "number", desc := "(I)I" } : Jvm.MethodName)) ∈ lw_all := lw_g (lw_at lw_m6 29 rfl) rfl
theorem q1345 : (Jvm.Cond.privateMethod ({ cls := "TollOnVowelsModel", name := "number", desc := "(I)I" } : Jvm.MethodName)) ∈ lw_tbl := lw_at lw_m6 30 rfl
theorem q1346 : (Jvm.Cond.instanceMethod ({ cls := "TollOnVowelsModel", name := "number", desc := "(I)I" } : Jvm.MethodName)) ∈ lw_all := lw_g (lw_at lw_m6 31 rfl) rfl
theorem q1347 : (Jvm.Cond.code ({ cls := "TollOnVowelsModel", name := "number", desc := "(I)I" } : Jvm.MethodName) prog_9_method_21_code (4 : Nat) (Option.some Jvm.ClassFile.FieldType.int)) ∈ lw_all := lw_g (lw_at lw_m6 32 rfl) rfl
theorem q1349 : (Jvm.Cond.instanceMethod ({ cls := "TollOnVowelsModel", name := "errands", desc := "()I" } : Jvm.MethodName)) ∈ lw_all := lw_g (lw_at lw_m6 34 rfl) rfl
theorem q1350 : (Jvm.Cond.selects "TollOnVowelsModel" ({ cls := "TollOnVowelsModel", name := "errands", desc := "()I" } : Jvm.MethodName) ({ cls := "TollOnVowelsModel", name := "errands", desc := "()I" } : Jvm.MethodName)) ∈ lw_all := lw_g (lw_at lw_m6 35 rfl) rfl
theorem q1351 : (Jvm.Cond.code ({ cls := "TollOnVowelsModel", name := "errands", desc := "()I" } : Jvm.MethodName) prog_9_method_27_code (4 : Nat) (Option.some Jvm.ClassFile.FieldType.int)) ∈ lw_all := lw_g (lw_at lw_m6 36 rfl) rfl
theorem q1353 : (Jvm.Cond.instanceMethod ({ cls := "TollOnVowelsModel", name := "rule", desc := "()I" } : Jvm.MethodName)) ∈ lw_all := lw_g (lw_at lw_m6 38 rfl) rfl
theorem q1354 : (Jvm.Cond.selects "TollOnVowelsModel" ({ cls := "TollOnVowelsModel", name := "rule", desc := "()I" } : Jvm.MethodName) ({ cls := "TollOnVowelsModel", name := "rule", desc := "()I" } : Jvm.MethodName)) ∈ lw_all := lw_g (lw_at lw_m6 39 rfl) rfl
theorem q1355 : (Jvm.Cond.code ({ cls := "TollOnVowelsModel", name := "rule", desc := "()I" } : Jvm.MethodName) prog_9_method_34_code (3 : Nat) (Option.some Jvm.ClassFile.FieldType.int)) ∈ lw_all := lw_g (lw_at lw_m6 40 rfl) rfl
theorem q1356 : (Jvm.Cond.methodLink "TollOnVowelsModel" (213 : Nat) ({ cls := "TollOnVowelsModel", name := "readRule", desc := "()Z" } : Jvm.MethodName)) ∈ lw_all := lw_g (lw_at lw_m6 41 rfl) rfl
theorem q1357 : (Jvm.Cond.privateMethod ({ cls := "TollOnVowelsModel", name := "readRule", desc := "()Z" } : Jvm.MethodName)) ∈ lw_tbl := lw_at lw_m6 42 rfl
theorem q1358 : (Jvm.Cond.instanceMethod ({ cls := "TollOnVowelsModel", name := "readRule", desc := "()Z" } : Jvm.MethodName)) ∈ lw_all := lw_g (lw_at lw_m6 43 rfl) rfl
theorem q1359 : (Jvm.Cond.code ({ cls := "TollOnVowelsModel", name := "readRule", desc := "()Z" } : Jvm.MethodName) prog_9_method_33_code (1 : Nat) (Option.some Jvm.ClassFile.FieldType.boolean)) ∈ lw_all := lw_g (lw_at lw_m6 44 rfl) rfl
theorem q1360 : (Jvm.Cond.methodLink "TollOnVowelsModel" (203 : Nat) ({ cls := "TollOnVowelsModel", name := "held", desc := "(I)I" } : Jvm.MethodName)) ∈ lw_all := lw_g (lw_at lw_m6 45 rfl) rfl
theorem q1361 : (Jvm.Cond.privateMethod ({ cls := "TollOnVowelsModel", name := "held", desc := "(I)I" } : Jvm.MethodName)) ∈ lw_tbl := lw_at lw_m6 46 rfl
theorem q1362 : (Jvm.Cond.instanceMethod ({ cls := "TollOnVowelsModel", name := "held", desc := "(I)I" } : Jvm.MethodName)) ∈ lw_all := lw_g (lw_at lw_m6 47 rfl) rfl
theorem q1363 : (Jvm.Cond.code ({ cls := "TollOnVowelsModel", name := "held", desc := "(I)I" } : Jvm.MethodName) prog_9_method_28_code (3 : Nat) (Option.some Jvm.ClassFile.FieldType.int)) ∈ lw_all := lw_g (lw_at lw_m6 48 rfl) rfl
theorem q1364 : (Jvm.Cond.methodLink "TollOnVowelsModel" (194 : Nat) ({ cls := "TollOnVowelsModel", name := "sum", desc := "(I)I" } : Jvm.MethodName)) ∈ lw_all := lw_g (lw_at lw_m6 49 rfl) rfl
theorem q1365 : (Jvm.Cond.privateMethod ({ cls := "TollOnVowelsModel", name := "sum", desc := "(I)I" } : Jvm.MethodName)) ∈ lw_tbl := lw_at lw_m6 50 rfl
theorem q1366 : (Jvm.Cond.instanceMethod ({ cls := "TollOnVowelsModel", name := "sum", desc := "(I)I" } : Jvm.MethodName)) ∈ lw_all := lw_g (lw_at lw_m6 51 rfl) rfl
theorem q1367 : (Jvm.Cond.code ({ cls := "TollOnVowelsModel", name := "sum", desc := "(I)I" } : Jvm.MethodName) prog_9_method_29_code (5 : Nat) (Option.some Jvm.ClassFile.FieldType.int)) ∈ lw_all := lw_g (lw_at lw_m6 52 rfl) rfl
theorem q1368 : (Jvm.Cond.methodLink "TollOnVowelsModel" (197 : Nat) ({ cls := "TollOnVowelsModel", name := "product", desc := "(I)I" } : Jvm.MethodName)) ∈ lw_all := lw_g (lw_at lw_m6 53 rfl) rfl
theorem q1369 : (Jvm.Cond.privateMethod ({ cls := "TollOnVowelsModel", name := "product", desc := "(I)I" } : Jvm.MethodName)) ∈ lw_tbl := lw_at lw_m6 54 rfl
theorem q1370 : (Jvm.Cond.instanceMethod ({ cls := "TollOnVowelsModel", name := "product", desc := "(I)I" } : Jvm.MethodName)) ∈ lw_all := lw_g (lw_at lw_m6 55 rfl) rfl
theorem q1371 : (Jvm.Cond.code ({ cls := "TollOnVowelsModel", name := "product", desc := "(I)I" } : Jvm.MethodName) prog_9_method_30_code (5 : Nat) (Option.some Jvm.ClassFile.FieldType.int)) ∈ lw_all := lw_g (lw_at lw_m6 56 rfl) rfl
theorem q1372 : (Jvm.Cond.methodLink "TollOnVowelsModel" (200 : Nat) ({ cls := "TollOnVowelsModel", name := "thing", desc := "(I)I" } : Jvm.MethodName)) ∈ lw_all := lw_g (lw_at lw_m6 57 rfl) rfl
theorem q1373 : (Jvm.Cond.privateMethod ({ cls := "TollOnVowelsModel", name := "thing", desc := "(I)I" } : Jvm.MethodName)) ∈ lw_tbl := lw_at lw_m6 58 rfl
theorem q1374 : (Jvm.Cond.instanceMethod ({ cls := "TollOnVowelsModel", name := "thing", desc := "(I)I" } : Jvm.MethodName)) ∈ lw_all := lw_g (lw_at lw_m6 59 rfl) rfl
theorem q1375 : (Jvm.Cond.code ({ cls := "TollOnVowelsModel", name := "thing", desc := "(I)I" } : Jvm.MethodName) prog_9_method_32_code (4 : Nat) (Option.some Jvm.ClassFile.FieldType.int)) ∈ lw_all := lw_g (lw_at lw_m6 60 rfl) rfl
theorem q1376 : (Jvm.Cond.methodLink "TollOnVowelsModel" (206 : Nat) ({ cls := "TollOnVowelsModel", name := "letterOf", desc := "(I)I" } : Jvm.MethodName)) ∈ lw_all := lw_g (lw_at lw_m6 61 rfl) rfl
theorem q1377 : (Jvm.Cond.static ({ cls := "TollOnVowelsModel", name := "letterOf", desc := "(I)I" } : Jvm.MethodName)) ∈ lw_all := lw_g (lw_at lw_m6 62 rfl) rfl
theorem q1378 : (Jvm.Cond.code ({ cls := "TollOnVowelsModel", name := "letterOf", desc := "(I)I" } : Jvm.MethodName) prog_9_method_31_code (1 : Nat) (Option.some Jvm.ClassFile.FieldType.int)) ∈ lw_all := lw_g (lw_at lw_m6 63 rfl) rfl
theorem q1380 : (Jvm.Cond.instanceMethod ({ cls := "TollOnVowelsModel", name := "word", desc := "(II)I" } : Jvm.MethodName)) ∈ lw_all := lw_g (lw_at lw_m6 65 rfl) rfl
theorem q1381 : (Jvm.Cond.selects "TollOnVowelsModel" ({ cls := "TollOnVowelsModel", name := "word", desc := "(II)I" } : Jvm.MethodName) ({ cls := "TollOnVowelsModel", name := "word", desc := "(II)I" } : Jvm.MethodName)) ∈ lw_all := lw_g (lw_at lw_m6 66 rfl) rfl
theorem q1382 : (Jvm.Cond.code ({ cls := "TollOnVowelsModel", name := "word", desc := "(II)I" } : Jvm.MethodName) prog_9_method_42_code (3 : Nat) (Option.some Jvm.ClassFile.FieldType.int)) ∈ lw_all := lw_g (lw_at lw_m6 67 rfl) rfl
theorem q1383 : (Jvm.Cond.methodLink "TollOnVowelsModel" (241 : Nat) ({ cls := "TollOnVowelsModel", name := "isWord", desc := "(I)Z" } : Jvm.MethodName)) ∈ lw_all := lw_g (lw_at lw_m6 68 rfl) rfl
theorem q1384 : (Jvm.Cond.privateMethod ({ cls := "TollOnVowelsModel", name := "isWord", desc := "(I)Z" } : Jvm.MethodName)) ∈ lw_tbl := lw_at lw_m6 69 rfl
theorem q1385 : (Jvm.Cond.instanceMethod ({ cls := "TollOnVowelsModel", name := "isWord", desc := "(I)Z" } : Jvm.MethodName)) ∈ lw_all := lw_g (lw_at lw_m6 70 rfl) rfl
theorem q1386 : (Jvm.Cond.code ({ cls := "TollOnVowelsModel", name := "isWord", desc := "(I)Z" } : Jvm.MethodName) prog_9_method_8_code (2 : Nat) (Option.some Jvm.ClassFile.FieldType.boolean)) ∈ lw_all := lw_g (lw_at lw_m6 71 rfl) rfl
theorem q1387 : (Jvm.Cond.methodLink "TollOnVowelsModel" (245 : Nat) ({ cls := "TollOnVowelsModel", name := "lost", desc := "()I" } : Jvm.MethodName)) ∈ lw_all := lw_g (lw_at lw_m6 72 rfl) rfl
theorem q1388 : (Jvm.Cond.privateMethod ({ cls := "TollOnVowelsModel", name := "lost", desc := "()I" } : Jvm.MethodName)) ∈ lw_tbl := lw_at lw_m6 73 rfl
theorem q1389 : (Jvm.Cond.instanceMethod ({ cls := "TollOnVowelsModel", name := "lost", desc := "()I" } : Jvm.MethodName)) ∈ lw_all := lw_g (lw_at lw_m6 74 rfl) rfl
theorem q1390 : (Jvm.Cond.code ({ cls := "TollOnVowelsModel", name := "lost", desc := "()I" } : Jvm.MethodName) prog_9_method_5_code (1 : Nat) (Option.some Jvm.ClassFile.FieldType.int)) ∈ lw_all := lw_g (lw_at lw_m6 75 rfl) rfl
theorem q1391 : (Jvm.Cond.methodLink "TollOnVowelsModel" (248 : Nat) ({ cls := "TollOnVowelsModel", name := "vowelsIn", desc := "(I)I" } : Jvm.MethodName)) ∈ lw_all := lw_g (lw_at lw_m6 76 rfl) rfl
theorem q1392 : (Jvm.Cond.privateMethod ({ cls := "TollOnVowelsModel", name := "vowelsIn", desc := "(I)I" } : Jvm.MethodName)) ∈ lw_tbl := lw_at lw_m6 77 rfl
theorem q1393 : (Jvm.Cond.instanceMethod ({ cls := "TollOnVowelsModel", name := "vowelsIn", desc := "(I)I" } : Jvm.MethodName)) ∈ lw_all := lw_g (lw_at lw_m6 78 rfl) rfl
theorem q1394 : (Jvm.Cond.code ({ cls := "TollOnVowelsModel", name := "vowelsIn", desc := "(I)I" } : Jvm.MethodName) prog_9_method_40_code (4 : Nat) (Option.some Jvm.ClassFile.FieldType.int)) ∈ lw_all := lw_g (lw_at lw_m6 79 rfl) rfl
theorem q1395 : (Jvm.Cond.methodLink "TollOnVowelsModel" (238 : Nat) ({ cls := "TollOnVowelsModel", name := "often", desc := "(II)I" } : Jvm.MethodName)) ∈ lw_all := lw_g (lw_at lw_m6 80 rfl) rfl
theorem q1396 : (Jvm.Cond.privateMethod ({ cls := "TollOnVowelsModel", name := "often", desc := "(II)I" } : Jvm.MethodName)) ∈ lw_tbl := lw_at lw_m6 81 rfl
theorem q1397 : (Jvm.Cond.instanceMethod ({ cls := "TollOnVowelsModel", name := "often", desc := "(II)I" } : Jvm.MethodName)) ∈ lw_all := lw_g (lw_at lw_m6 82 rfl) rfl
theorem q1398 : (Jvm.Cond.code ({ cls := "TollOnVowelsModel", name := "often", desc := "(II)I" } : Jvm.MethodName) prog_9_method_39_code (5 : Nat) (Option.some Jvm.ClassFile.FieldType.int)) ∈ lw_all := lw_g (lw_at lw_m6 83 rfl) rfl
theorem q1399 : (Jvm.Cond.methodLink "TollOnVowelsModel" (219 : Nat) ({ cls := "TollOnVowelsModel", name := "letter", desc := "(II)I" } : Jvm.MethodName)) ∈ lw_all := lw_g (lw_at lw_m6 84 rfl) rfl
theorem q1400 : (Jvm.Cond.privateMethod ({ cls := "TollOnVowelsModel", name := "letter", desc := "(II)I" } : Jvm.MethodName)) ∈ lw_tbl := lw_at lw_m6 85 rfl
theorem q1401 : (Jvm.Cond.instanceMethod ({ cls := "TollOnVowelsModel", name := "letter", desc := "(II)I" } : Jvm.MethodName)) ∈ lw_all := lw_g (lw_at lw_m6 86 rfl) rfl
theorem q1402 : (Jvm.Cond.code ({ cls := "TollOnVowelsModel", name := "letter", desc := "(II)I" } : Jvm.MethodName) prog_9_method_36_code (3 : Nat) (Option.some Jvm.ClassFile.FieldType.int)) ∈ lw_all := lw_g (lw_at lw_m6 87 rfl) rfl
theorem q1403 : (Jvm.Cond.methodLink "TollOnVowelsModel" (223 : Nat) ({ cls := "TollOnVowelsModel", name := "vowelOf", desc := "(I)I" } : Jvm.MethodName)) ∈ lw_all := lw_g (lw_at lw_m6 88 rfl) rfl
theorem q1404 : (Jvm.Cond.static ({ cls := "TollOnVowelsModel", name := "vowelOf", desc := "(I)I" } : Jvm.MethodName)) ∈ lw_all := lw_g (lw_at lw_m6 89 rfl) rfl
theorem q1405 : (Jvm.Cond.code ({ cls := "TollOnVowelsModel", name := "vowelOf", desc := "(I)I" } : Jvm.MethodName) prog_9_method_35_code (1 : Nat) (Option.some Jvm.ClassFile.FieldType.int)) ∈ lw_all := lw_g (lw_at lw_m6 90 rfl) rfl
theorem q1407 : (Jvm.Cond.instanceMethod ({ cls := "TollOnVowelsModel", name := "traveller", desc := "(II)I" } : Jvm.MethodName)) ∈ lw_all := lw_g (lw_at lw_m6 92 rfl) rfl
theorem q1408 : (Jvm.Cond.selects "TollOnVowelsModel" ({ cls := "TollOnVowelsModel", name := "traveller", desc := "(II)I" } : Jvm.MethodName) ({ cls := "TollOnVowelsModel", name := "traveller", desc := "(II)I" } : Jvm.MethodName)) ∈ lw_all := lw_g (lw_at lw_m6 93 rfl) rfl
theorem q1409 : (Jvm.Cond.code ({ cls := "TollOnVowelsModel", name := "traveller", desc := "(II)I" } : Jvm.MethodName) prog_9_method_45_code (5 : Nat) (Option.some Jvm.ClassFile.FieldType.int)) ∈ lw_all := lw_g (lw_at lw_m6 94 rfl) rfl
theorem q1410 : (Jvm.Cond.methodLink "TollOnVowelsModel" (258 : Nat) ({ cls := "TollOnVowelsModel", name := "isOne", desc := "(I)Z" } : Jvm.MethodName)) ∈ lw_all := lw_g (lw_at lw_m6 95 rfl) rfl
theorem q1411 : (Jvm.Cond.privateMethod ({ cls := "TollOnVowelsModel", name := "isOne", desc := "(I)Z" } : Jvm.MethodName)) ∈ lw_tbl := lw_at lw_m6 96 rfl
theorem q1412 : (Jvm.Cond.instanceMethod ({ cls := "TollOnVowelsModel", name := "isOne", desc := "(I)Z" } : Jvm.MethodName)) ∈ lw_all := lw_g (lw_at lw_m6 97 rfl) rfl
theorem q1413 : (Jvm.Cond.code ({ cls := "TollOnVowelsModel", name := "isOne", desc := "(I)Z" } : Jvm.MethodName) prog_9_method_9_code (2 : Nat) (Option.some Jvm.ClassFile.FieldType.boolean)) ∈ lw_all := lw_g (lw_at lw_m6 98 rfl) rfl
theorem q1414 : (Jvm.Cond.methodLink "TollOnVowelsModel" (261 : Nat) ({ cls := "TollOnVowelsModel", name := "openOf", desc := "(I)I" } : Jvm.MethodName)) ∈ lw_all := lw_g (lw_at lw_m6 99 rfl) rfl
theorem q1415 : (Jvm.Cond.privateMethod ({ cls := "TollOnVowelsModel", name := "openOf", desc := "(I)I" } : Jvm.MethodName)) ∈ lw_tbl := lw_at lw_m6 100 rfl
theorem q1416 : (Jvm.Cond.instanceMethod ({ cls := "TollOnVowelsModel", name := "openOf", desc := "(I)I" } : Jvm.MethodName)) ∈ lw_all := lw_g (lw_at lw_m6 101 rfl) rfl
theorem q1417 : (Jvm.Cond.code ({ cls := "TollOnVowelsModel", name := "openOf", desc := "(I)I" } : Jvm.MethodName) prog_9_method_44_code (4 : Nat) (Option.some Jvm.ClassFile.FieldType.int)) ∈ lw_all := lw_g (lw_at lw_m6 102 rfl) rfl
theorem q1418 : (Jvm.Cond.methodLink "TollOnVowelsModel" (251 : Nat) ({ cls := "TollOnVowelsModel", name := "field", desc := "(II)I" } : Jvm.MethodName)) ∈ lw_all := lw_g (lw_at lw_m6 103 rfl) rfl
theorem q1419 : (Jvm.Cond.privateMethod ({ cls := "TollOnVowelsModel", name := "field", desc := "(II)I" } : Jvm.MethodName)) ∈ lw_tbl := lw_at lw_m6 104 rfl
theorem q1420 : (Jvm.Cond.instanceMethod ({ cls := "TollOnVowelsModel", name := "field", desc := "(II)I" } : Jvm.MethodName)) ∈ lw_all := lw_g (lw_at lw_m6 105 rfl) rfl
theorem q1421 : (Jvm.Cond.code ({ cls := "TollOnVowelsModel", name := "field", desc := "(II)I" } : Jvm.MethodName) prog_9_method_43_code (3 : Nat) (Option.some Jvm.ClassFile.FieldType.int)) ∈ lw_all := lw_g (lw_at lw_m6 106 rfl) rfl
theorem q1422 : (Jvm.Cond.methodLink "TollOnVowelsModel" (254 : Nat) ({ cls := "TollOnVowelsModel", name := "has", desc := "(II)Z" } : Jvm.MethodName)) ∈ lw_all := lw_g (lw_at lw_m6 107 rfl) rfl
theorem q1423 : (Jvm.Cond.static ({ cls := "TollOnVowelsModel", name := "has", desc := "(II)Z" } : Jvm.MethodName)) ∈ lw_all := lw_g (lw_at lw_m6 108 rfl) rfl
theorem q1424 : (Jvm.Cond.code ({ cls := "TollOnVowelsModel", name := "has", desc := "(II)Z" } : Jvm.MethodName) prog_9_method_4_code (2 : Nat) (Option.some Jvm.ClassFile.FieldType.boolean)) ∈ lw_all := lw_g (lw_at lw_m6 109 rfl) rfl
theorem q1426 : (Jvm.Cond.instanceMethod ({ cls := "TollOnVowelsModel", name := "errand", desc := "(II)I" } : Jvm.MethodName)) ∈ lw_all := lw_g (lw_at lw_m6 111 rfl) rfl
theorem q1427 : (Jvm.Cond.selects "TollOnVowelsModel" ({ cls := "TollOnVowelsModel", name := "errand", desc := "(II)I" } : Jvm.MethodName) ({ cls := "TollOnVowelsModel", name := "errand", desc := "(II)I" } : Jvm.MethodName)) ∈ lw_all := lw_g (lw_at lw_m6 112 rfl) rfl
theorem q1428 : (Jvm.Cond.code ({ cls := "TollOnVowelsModel", name := "errand", desc := "(II)I" } : Jvm.MethodName) prog_9_method_46_code (3 : Nat) (Option.some Jvm.ClassFile.FieldType.int)) ∈ lw_all := lw_g (lw_at lw_m6 113 rfl) rfl
theorem q1430 : (Jvm.Cond.instanceMethod ({ cls := "TollOnVowelsModel", name := "book", desc := "(II)I" } : Jvm.MethodName)) ∈ lw_all := lw_g (lw_at lw_m6 115 rfl) rfl
theorem q1431 : (Jvm.Cond.selects "TollOnVowelsModel" ({ cls := "TollOnVowelsModel", name := "book", desc := "(II)I" } : Jvm.MethodName) ({ cls := "TollOnVowelsModel", name := "book", desc := "(II)I" } : Jvm.MethodName)) ∈ lw_all := lw_g (lw_at lw_m6 116 rfl) rfl
theorem q1432 : (Jvm.Cond.code ({ cls := "TollOnVowelsModel", name := "book", desc := "(II)I" } : Jvm.MethodName) prog_9_method_47_code (3 : Nat) (Option.some Jvm.ClassFile.FieldType.int)) ∈ lw_all := lw_g (lw_at lw_m6 117 rfl) rfl
theorem q1433 : (Jvm.Cond.methodLink "TollOnVowelsModel" (264 : Nat) ({ cls := "TollOnVowelsModel", name := "isStation", desc := "(I)Z" } : Jvm.MethodName)) ∈ lw_all := lw_g (lw_at lw_m6 118 rfl) rfl
theorem q1434 : (Jvm.Cond.privateMethod ({ cls := "TollOnVowelsModel", name := "isStation", desc := "(I)Z" } : Jvm.MethodName)) ∈ lw_tbl := lw_at lw_m6 119 rfl
theorem q1435 : (Jvm.Cond.instanceMethod ({ cls := "TollOnVowelsModel", name := "isStation", desc := "(I)Z" } : Jvm.MethodName)) ∈ lw_all := lw_g (lw_at lw_m6 120 rfl) rfl
theorem q1436 : (Jvm.Cond.code ({ cls := "TollOnVowelsModel", name := "isStation", desc := "(I)Z" } : Jvm.MethodName) prog_9_method_7_code (2 : Nat) (Option.some Jvm.ClassFile.FieldType.boolean)) ∈ lw_all := lw_g (lw_at lw_m6 121 rfl) rfl
theorem q1438 : (Jvm.Cond.instanceMethod ({ cls := "TollOnVowelsModel", name := "sheet", desc := "(IIII)I" } : Jvm.MethodName)) ∈ lw_all := lw_g (lw_at lw_m6 123 rfl) rfl
theorem q1439 : (Jvm.Cond.selects "TollOnVowelsModel" ({ cls := "TollOnVowelsModel", name := "sheet", desc := "(IIII)I" } : Jvm.MethodName) ({ cls := "TollOnVowelsModel", name := "sheet", desc := "(IIII)I" } : Jvm.MethodName)) ∈ lw_all := lw_g (lw_at lw_m6 124 rfl) rfl
theorem q1440 : (Jvm.Cond.code ({ cls := "TollOnVowelsModel", name := "sheet", desc := "(IIII)I" } : Jvm.MethodName) prog_9_method_48_code (9 : Nat) (Option.some Jvm.ClassFile.FieldType.int)) ∈ lw_all := lw_g (lw_at lw_m6 125 rfl) rfl
theorem q1441 : (Jvm.Cond.methodLink "TollOnVowelsModel" (226 : Nat) ({ cls := "java/lang/Math", name := "min", desc := "(II)I" } : Jvm.MethodName)) ∈ lw_all := lw_g (lw_at lw_m6 126 rfl) rfl
theorem q1442 : (Jvm.Cond.methodLink "TollOnVowelsModel" (231 : Nat) ({ cls := "java/lang/Math", name := "max", desc := "(II)I" } : Jvm.MethodName)) ∈ lw_all := lw_g (lw_at lw_m6 127 rfl) rfl
theorem q1444 : (Jvm.Cond.instanceMethod ({ cls := "TollOnVowelsModel", name := "toll", desc := "(II)I" } : Jvm.MethodName)) ∈ lw_all := lw_g (lw_at lw_m6 129 rfl) rfl
theorem q1445 : (Jvm.Cond.selects "TollOnVowelsModel" ({ cls := "TollOnVowelsModel", name := "toll", desc := "(II)I" } : Jvm.MethodName) ({ cls := "TollOnVowelsModel", name := "toll", desc := "(II)I" } : Jvm.MethodName)) ∈ lw_all := lw_g (lw_at lw_m6 130 rfl) rfl
theorem q1446 : (Jvm.Cond.code ({ cls := "TollOnVowelsModel", name := "toll", desc := "(II)I" } : Jvm.MethodName) prog_9_method_51_code (5 : Nat) (Option.some Jvm.ClassFile.FieldType.int)) ∈ lw_all := lw_g (lw_at lw_m6 131 rfl) rfl
theorem q1447 : (Jvm.Cond.methodLink "TollOnVowelsModel" (271 : Nat) ({ cls := "TollOnVowelsModel", name := "tollNow", desc := "(II)I" } : Jvm.MethodName)) ∈ lw_all := lw_g (lw_at lw_m6 132 rfl) rfl
theorem q1448 : (Jvm.Cond.privateMethod ({ cls := "TollOnVowelsModel", name := "tollNow", desc := "(II)I" } : Jvm.MethodName)) ∈ lw_tbl := lw_at lw_m6 133 rfl
theorem q1449 : (Jvm.Cond.instanceMethod ({ cls := "TollOnVowelsModel", name := "tollNow", desc := "(II)I" } : Jvm.MethodName)) ∈ lw_all := lw_g (lw_at lw_m6 134 rfl) rfl
theorem q1450 : (Jvm.Cond.code ({ cls := "TollOnVowelsModel", name := "tollNow", desc := "(II)I" } : Jvm.MethodName) prog_9_method_38_code (3 : Nat) (Option.some Jvm.ClassFile.FieldType.int)) ∈ lw_all := lw_g (lw_at lw_m6 135 rfl) rfl
theorem q1451 : (Jvm.Cond.methodLink "TollOnVowelsModel" (234 : Nat) ({ cls := "TollOnVowelsModel", name := "tollOf", desc := "(III)I" } : Jvm.MethodName)) ∈ lw_all := lw_g (lw_at lw_m6 136 rfl) rfl
theorem q1452 : (Jvm.Cond.privateMethod ({ cls := "TollOnVowelsModel", name := "tollOf", desc := "(III)I" } : Jvm.MethodName)) ∈ lw_tbl := lw_at lw_m6 137 rfl
theorem q1453 : (Jvm.Cond.instanceMethod ({ cls := "TollOnVowelsModel", name := "tollOf", desc := "(III)I" } : Jvm.MethodName)) ∈ lw_all := lw_g (lw_at lw_m6 138 rfl) rfl
theorem q1454 : (Jvm.Cond.code ({ cls := "TollOnVowelsModel", name := "tollOf", desc := "(III)I" } : Jvm.MethodName) prog_9_method_37_code (9 : Nat) (Option.some Jvm.ClassFile.FieldType.int)) ∈ lw_all := lw_g (lw_at lw_m6 139 rfl) rfl
theorem q1455 : (Jvm.Cond.methodLink "TollOnVowelsModel" (274 : Nat) ({ cls := "TollOnVowelsModel", name := "tell", desc := "(J)V" } : Jvm.MethodName)) ∈ lw_all := lw_g (lw_at lw_m6 140 rfl) rfl
theorem q1456 : (Jvm.Cond.privateMethod ({ cls := "TollOnVowelsModel", name := "tell", desc := "(J)V" } : Jvm.MethodName)) ∈ lw_tbl := lw_at lw_m6 141 rfl
theorem q1457 : (Jvm.Cond.instanceMethod ({ cls := "TollOnVowelsModel", name := "tell", desc := "(J)V" } : Jvm.MethodName)) ∈ lw_all := lw_g (lw_at lw_m6 142 rfl) rfl
theorem q1458 : (Jvm.Cond.code ({ cls := "TollOnVowelsModel", name := "tell", desc := "(J)V" } : Jvm.MethodName) prog_9_method_6_code (3 : Nat) (Option.none : Option Jvm.ClassFile.FieldType)) ∈ lw_all := lw_g (lw_at lw_m6 143 rfl) rfl
theorem q1460 : (Jvm.Cond.instanceMethod ({ cls := "TollOnVowelsModel", name := "walk", desc := "(II)I" } : Jvm.MethodName)) ∈ lw_all := lw_g (lw_at lw_m6 145 rfl) rfl
theorem q1461 : (Jvm.Cond.selects "TollOnVowelsModel" ({ cls := "TollOnVowelsModel", name := "walk", desc := "(II)I" } : Jvm.MethodName) ({ cls := "TollOnVowelsModel", name := "walk", desc := "(II)I" } : Jvm.MethodName)) ∈ lw_all := lw_g (lw_at lw_m6 146 rfl) rfl
theorem q1462 : (Jvm.Cond.code ({ cls := "TollOnVowelsModel", name := "walk", desc := "(II)I" } : Jvm.MethodName) prog_9_method_54_code (4 : Nat) (Option.some Jvm.ClassFile.FieldType.int)) ∈ lw_all := lw_g (lw_at lw_m6 147 rfl) rfl
theorem q1463 : (Jvm.Cond.methodLink "TollOnVowelsModel" (278 : Nat) ({ cls := "TollOnVowelsModel", name := "refusesWalk", desc := "([III)I" } : Jvm.MethodName)) ∈ lw_all := lw_g (lw_at lw_m6 148 rfl) rfl
theorem q1464 : (Jvm.Cond.privateMethod ({ cls := "TollOnVowelsModel", name := "refusesWalk", desc := "([III)I" } : Jvm.MethodName)) ∈ lw_tbl := lw_at lw_m6 149 rfl
theorem q1465 : (Jvm.Cond.instanceMethod ({ cls := "TollOnVowelsModel", name := "refusesWalk", desc := "([III)I" } : Jvm.MethodName)) ∈ lw_all := lw_g (lw_at lw_m6 150 rfl) rfl
theorem q1466 : (Jvm.Cond.code ({ cls := "TollOnVowelsModel", name := "refusesWalk", desc := "([III)I" } : Jvm.MethodName) prog_9_method_52_code (4 : Nat) (Option.some Jvm.ClassFile.FieldType.int)) ∈ lw_all := lw_g (lw_at lw_m6 151 rfl) rfl
theorem q1467 : (Jvm.Cond.methodLink "TollOnVowelsModel" (282 : Nat) ({ cls := "TollOnVowelsModel", name := "remember", desc := "([I)V" } : Jvm.MethodName)) ∈ lw_all := lw_g (lw_at lw_m6 152 rfl) rfl
theorem q1468 : (Jvm.Cond.privateMethod ({ cls := "TollOnVowelsModel", name := "remember", desc := "([I)V" } : Jvm.MethodName)) ∈ lw_tbl := lw_at lw_m6 153 rfl
theorem q1469 : (Jvm.Cond.instanceMethod ({ cls := "TollOnVowelsModel", name := "remember", desc := "([I)V" } : Jvm.MethodName)) ∈ lw_all := lw_g (lw_at lw_m6 154 rfl) rfl
theorem q1470 : (Jvm.Cond.code ({ cls := "TollOnVowelsModel", name := "remember", desc := "([I)V" } : Jvm.MethodName) prog_9_method_50_code (3 : Nat) (Option.none : Option Jvm.ClassFile.FieldType)) ∈ lw_all := lw_g (lw_at lw_m6 155 rfl) rfl
theorem q1471 : (Jvm.Cond.methodLink "TollOnVowelsModel" (267 : Nat) ({ cls := "TollOnVowelsModel", name := "lay", desc := "([I[II)V" } : Jvm.MethodName)) ∈ lw_all := lw_g (lw_at lw_m6 156 rfl) rfl
theorem q1472 : (Jvm.Cond.static ({ cls := "TollOnVowelsModel", name := "lay", desc := "([I[II)V" } : Jvm.MethodName)) ∈ lw_all := lw_g (lw_at lw_m6 157 rfl) rfl
theorem q1473 : (Jvm.Cond.code ({ cls := "TollOnVowelsModel", name := "lay", desc := "([I[II)V" } : Jvm.MethodName) prog_9_method_49_code (4 : Nat) (Option.none : Option Jvm.ClassFile.FieldType)) ∈ lw_all := lw_g (lw_at lw_m6 158 rfl) rfl
theorem q1474 : (Jvm.Cond.methodLink "TollOnVowelsModel" (286 : Nat) ({ cls := "TollOnVowelsModel", name := "goWalk", desc := "([III)I" } : Jvm.MethodName)) ∈ lw_all := lw_g (lw_at lw_m6 159 rfl) rfl
theorem q1475 : (Jvm.Cond.static ({ cls := "TollOnVowelsModel", name := "goWalk", desc := "([III)I" } : Jvm.MethodName)) ∈ lw_all := lw_g (lw_at lw_m6 160 rfl) rfl
theorem q1476 : (Jvm.Cond.code ({ cls := "TollOnVowelsModel", name := "goWalk", desc := "([III)I" } : Jvm.MethodName) prog_9_method_53_code (3 : Nat) (Option.some Jvm.ClassFile.FieldType.int)) ∈ lw_all := lw_g (lw_at lw_m6 161 rfl) rfl
theorem q1478 : (Jvm.Cond.instanceMethod ({ cls := "TollOnVowelsModel", name := "pause", desc := "(I)I" } : Jvm.MethodName)) ∈ lw_all := lw_g (lw_at lw_m6 163 rfl) rfl
theorem q1479 : (Jvm.Cond.selects "TollOnVowelsModel" ({ cls := "TollOnVowelsModel", name := "pause", desc := "(I)I" } : Jvm.MethodName) ({ cls := "TollOnVowelsModel", name := "pause", desc := "(I)I" } : Jvm.MethodName)) ∈ lw_all := lw_g (lw_at lw_m6 164 rfl) rfl
theorem q1480 : (Jvm.Cond.code ({ cls := "TollOnVowelsModel", name := "pause", desc := "(I)I" } : Jvm.MethodName) prog_9_method_55_code (2 : Nat) (Option.some Jvm.ClassFile.FieldType.int)) ∈ lw_all := lw_g (lw_at lw_m6 165 rfl) rfl
theorem q1482 : (Jvm.Cond.instanceMethod ({ cls := "TollOnVowelsModel", name := "say", desc := "(II)I" } : Jvm.MethodName)) ∈ lw_all := lw_g (lw_at lw_m6 167 rfl) rfl
theorem q1483 : (Jvm.Cond.selects "TollOnVowelsModel" ({ cls := "TollOnVowelsModel", name := "say", desc := "(II)I" } : Jvm.MethodName) ({ cls := "TollOnVowelsModel", name := "say", desc := "(II)I" } : Jvm.MethodName)) ∈ lw_all := lw_g (lw_at lw_m6 168 rfl) rfl
theorem q1484 : (Jvm.Cond.code ({ cls := "TollOnVowelsModel", name := "say", desc := "(II)I" } : Jvm.MethodName) prog_9_method_58_code (5 : Nat) (Option.some Jvm.ClassFile.FieldType.int)) ∈ lw_all := lw_g (lw_at lw_m6 169 rfl) rfl
theorem q1485 : (Jvm.Cond.methodLink "TollOnVowelsModel" (295 : Nat) ({ cls := "TollOnVowelsModel", name := "refusesSay", desc := "([III)I" } : Jvm.MethodName)) ∈ lw_all := lw_g (lw_at lw_m6 170 rfl) rfl
theorem q1486 : (Jvm.Cond.privateMethod ({ cls := "TollOnVowelsModel", name := "refusesSay", desc := "([III)I" } : Jvm.MethodName)) ∈ lw_tbl := lw_at lw_m6 171 rfl
theorem q1487 : (Jvm.Cond.instanceMethod ({ cls := "TollOnVowelsModel", name := "refusesSay", desc := "([III)I" } : Jvm.MethodName)) ∈ lw_all := lw_g (lw_at lw_m6 172 rfl) rfl
theorem q1488 : (Jvm.Cond.code ({ cls := "TollOnVowelsModel", name := "refusesSay", desc := "([III)I" } : Jvm.MethodName) prog_9_method_56_code (4 : Nat) (Option.some Jvm.ClassFile.FieldType.int)) ∈ lw_all := lw_g (lw_at lw_m6 173 rfl) rfl
theorem q1489 : (Jvm.Cond.methodLink "TollOnVowelsModel" (298 : Nat) ({ cls := "TollOnVowelsModel", name := "goSay", desc := "([III)I" } : Jvm.MethodName)) ∈ lw_all := lw_g (lw_at lw_m6 174 rfl) rfl
theorem q1490 : (Jvm.Cond.privateMethod ({ cls := "TollOnVowelsModel", name := "goSay", desc := "([III)I" } : Jvm.MethodName)) ∈ lw_tbl := lw_at lw_m6 175 rfl
theorem q1491 : (Jvm.Cond.instanceMethod ({ cls := "TollOnVowelsModel", name := "goSay", desc := "([III)I" } : Jvm.MethodName)) ∈ lw_all := lw_g (lw_at lw_m6 176 rfl) rfl
theorem q1492 : (Jvm.Cond.code ({ cls := "TollOnVowelsModel", name := "goSay", desc := "([III)I" } : Jvm.MethodName) prog_9_method_57_code (6 : Nat) (Option.some Jvm.ClassFile.FieldType.int)) ∈ lw_all := lw_g (lw_at lw_m6 177 rfl) rfl
theorem q1493 : (Jvm.Cond.methodLink "TollOnVowelsModel" (292 : Nat) ({ cls := "TollOnVowelsModel", name := "means", desc := "(II)Z" } : Jvm.MethodName)) ∈ lw_all := lw_g (lw_at lw_m6 178 rfl) rfl
theorem q1494 : (Jvm.Cond.privateMethod ({ cls := "TollOnVowelsModel", name := "means", desc := "(II)Z" } : Jvm.MethodName)) ∈ lw_tbl := lw_at lw_m6 179 rfl
theorem q1495 : (Jvm.Cond.instanceMethod ({ cls := "TollOnVowelsModel", name := "means", desc := "(II)Z" } : Jvm.MethodName)) ∈ lw_all := lw_g (lw_at lw_m6 180 rfl) rfl
theorem q1496 : (Jvm.Cond.code ({ cls := "TollOnVowelsModel", name := "means", desc := "(II)Z" } : Jvm.MethodName) prog_9_method_41_code (3 : Nat) (Option.some Jvm.ClassFile.FieldType.boolean)) ∈ lw_all := lw_g (lw_at lw_m6 181 rfl) rfl
theorem q1498 : (Jvm.Cond.instanceMethod ({ cls := "TollOnVowelsModel", name := "alms", desc := "(III)I" } : Jvm.MethodName)) ∈ lw_all := lw_g (lw_at lw_m6 183 rfl) rfl
theorem q1499 : (Jvm.Cond.selects "TollOnVowelsModel" ({ cls := "TollOnVowelsModel", name := "alms", desc := "(III)I" } : Jvm.MethodName) ({ cls := "TollOnVowelsModel", name := "alms", desc := "(III)I" } : Jvm.MethodName)) ∈ lw_all := lw_g (lw_at lw_m6 184 rfl) rfl
theorem q1500 : (Jvm.Cond.code ({ cls := "TollOnVowelsModel", name := "alms", desc := "(III)I" } : Jvm.MethodName) prog_9_method_59_code (4 : Nat) (Option.some Jvm.ClassFile.FieldType.int)) ∈ lw_all := lw_g (lw_at lw_m6 185 rfl) rfl
theorem q1502 : (Jvm.Cond.instanceMethod ({ cls := "TollOnVowelsModel", name := "journey", desc := "()I" } : Jvm.MethodName)) ∈ lw_all := lw_g (lw_at lw_m6 187 rfl) rfl
theorem q1503 : (Jvm.Cond.selects "TollOnVowelsModel" ({ cls := "TollOnVowelsModel", name := "journey", desc := "()I" } : Jvm.MethodName) ({ cls := "TollOnVowelsModel", name := "journey", desc := "()I" } : Jvm.MethodName)) ∈ lw_all := lw_g (lw_at lw_m6 188 rfl) rfl
theorem q1504 : (Jvm.Cond.code ({ cls := "TollOnVowelsModel", name := "journey", desc := "()I" } : Jvm.MethodName) prog_9_method_60_code (4 : Nat) (Option.some Jvm.ClassFile.FieldType.int)) ∈ lw_all := lw_g (lw_at lw_m6 189 rfl) rfl
theorem q1505 : (Jvm.Cond.methodLink "TollOnVowelsModel" (301 : Nat) ({ cls := "TollOnVowelsModel", name := "readAct", desc := "(I)V" } : Jvm.MethodName)) ∈ lw_all := lw_g (lw_at lw_m6 190 rfl) rfl
theorem q1506 : (Jvm.Cond.privateMethod ({ cls := "TollOnVowelsModel", name := "readAct", desc := "(I)V" } : Jvm.MethodName)) ∈ lw_tbl := lw_at lw_m6 191 rfl
theorem q1507 : (Jvm.Cond.instanceMethod ({ cls := "TollOnVowelsModel", name := "readAct", desc := "(I)V" } : Jvm.MethodName)) ∈ lw_all := lw_g (lw_at lw_m6 192 rfl) rfl
theorem q1508 : (Jvm.Cond.code ({ cls := "TollOnVowelsModel", name := "readAct", desc := "(I)V" } : Jvm.MethodName) prog_9_method_61_code (3 : Nat) (Option.none : Option Jvm.ClassFile.FieldType)) ∈ lw_all := lw_g (lw_at lw_m6 193 rfl) rfl
theorem q1509 : (Jvm.Cond.methodLink "TollOnVowelsModel" (307 : Nat) ({ cls := "TollOnVowelsModel", name := "act", desc := "(III)Z" } : Jvm.MethodName)) ∈ lw_all := lw_g (lw_at lw_m6 194 rfl) rfl
theorem q1510 : (Jvm.Cond.privateMethod ({ cls := "TollOnVowelsModel", name := "act", desc := "(III)Z" } : Jvm.MethodName)) ∈ lw_tbl := lw_at lw_m6 195 rfl
theorem q1511 : (Jvm.Cond.instanceMethod ({ cls := "TollOnVowelsModel", name := "act", desc := "(III)Z" } : Jvm.MethodName)) ∈ lw_all := lw_g (lw_at lw_m6 196 rfl) rfl
theorem q1512 : (Jvm.Cond.code ({ cls := "TollOnVowelsModel", name := "act", desc := "(III)Z" } : Jvm.MethodName) prog_9_method_62_code (5 : Nat) (Option.some Jvm.ClassFile.FieldType.boolean)) ∈ lw_all := lw_g (lw_at lw_m6 197 rfl) rfl
theorem q1513 : (Jvm.Cond.methodLink "TollOnVowelsModel" (310 : Nat) ({ cls := "TollOnVowelsModel", name := "wordFor", desc := "(I)I" } : Jvm.MethodName)) ∈ lw_all := lw_g (lw_at lw_m6 198 rfl) rfl
theorem q1514 : (Jvm.Cond.privateMethod ({ cls := "TollOnVowelsModel", name := "wordFor", desc := "(I)I" } : Jvm.MethodName)) ∈ lw_tbl := lw_at lw_m6 199 rfl
theorem q1515 : (Jvm.Cond.instanceMethod ({ cls := "TollOnVowelsModel", name := "wordFor", desc := "(I)I" } : Jvm.MethodName)) ∈ lw_all := lw_g (lw_at lw_m6 200 rfl) rfl
theorem q1516 : (Jvm.Cond.code ({ cls := "TollOnVowelsModel", name := "wordFor", desc := "(I)I" } : Jvm.MethodName) prog_9_method_63_code (3 : Nat) (Option.some Jvm.ClassFile.FieldType.int)) ∈ lw_all := lw_g (lw_at lw_m6 201 rfl) rfl
theorem q1517 : (Jvm.Cond.methodLink "TollOnVowelsModel" (313 : Nat) ({ cls := "TollOnVowelsModel", name := "cheapestOf", desc := "(II)I" } : Jvm.MethodName)) ∈ lw_all := lw_g (lw_at lw_m6 202 rfl) rfl
theorem q1518 : (Jvm.Cond.privateMethod ({ cls := "TollOnVowelsModel", name := "cheapestOf", desc := "(II)I" } : Jvm.MethodName)) ∈ lw_tbl := lw_at lw_m6 203 rfl
theorem q1519 : (Jvm.Cond.instanceMethod ({ cls := "TollOnVowelsModel", name := "cheapestOf", desc := "(II)I" } : Jvm.MethodName)) ∈ lw_all := lw_g (lw_at lw_m6 204 rfl) rfl
theorem q1520 : (Jvm.Cond.code ({ cls := "TollOnVowelsModel", name := "cheapestOf", desc := "(II)I" } : Jvm.MethodName) prog_9_method_65_code (5 : Nat) (Option.some Jvm.ClassFile.FieldType.int)) ∈ lw_all := lw_g (lw_at lw_m6 205 rfl) rfl
theorem q1522 : (Jvm.Cond.instanceMethod ({ cls := "TollOnVowelsModel", name := "undo", desc := "()I" } : Jvm.MethodName)) ∈ lw_all := lw_g (lw_at lw_m6 207 rfl) rfl
theorem q1523 : (Jvm.Cond.selects "TollOnVowelsModel" ({ cls := "TollOnVowelsModel", name := "undo", desc := "()I" } : Jvm.MethodName) ({ cls := "TollOnVowelsModel", name := "undo", desc := "()I" } : Jvm.MethodName)) ∈ lw_all := lw_g (lw_at lw_m6 208 rfl) rfl
theorem q1524 : (Jvm.Cond.code ({ cls := "TollOnVowelsModel", name := "undo", desc := "()I" } : Jvm.MethodName) prog_9_method_64_code (2 : Nat) (Option.some Jvm.ClassFile.FieldType.int)) ∈ lw_all := lw_g (lw_at lw_m6 209 rfl) rfl
theorem q1526 : (Jvm.Cond.instanceMethod ({ cls := "TollOnVowelsModel", name := "cheapest", desc := "(II)I" } : Jvm.MethodName)) ∈ lw_all := lw_g (lw_at lw_m6 211 rfl) rfl
theorem q1527 : (Jvm.Cond.selects "TollOnVowelsModel" ({ cls := "TollOnVowelsModel", name := "cheapest", desc := "(II)I" } : Jvm.MethodName) ({ cls := "TollOnVowelsModel", name := "cheapest", desc := "(II)I" } : Jvm.MethodName)) ∈ lw_all := lw_g (lw_at lw_m6 212 rfl) rfl
theorem q1528 : (Jvm.Cond.code ({ cls := "TollOnVowelsModel", name := "cheapest", desc := "(II)I" } : Jvm.MethodName) prog_9_method_66_code (6 : Nat) (Option.some Jvm.ClassFile.FieldType.int)) ∈ lw_all := lw_g (lw_at lw_m6 213 rfl) rfl
theorem q1529 : (Jvm.Cond.methodLink "TollOnVowelsModel" (316 : Nat) ({ cls := "TollOnVowelsModel", name := "isMeaning", desc := "(I)Z" } : Jvm.MethodName)) ∈ lw_all := lw_g (lw_at lw_m6 214 rfl) rfl
theorem q1530 : (Jvm.Cond.static ({ cls := "TollOnVowelsModel", name := "isMeaning", desc := "(I)Z" } : Jvm.MethodName)) ∈ lw_all := lw_g (lw_at lw_m6 215 rfl) rfl
theorem q1531 : (Jvm.Cond.code ({ cls := "TollOnVowelsModel", name := "isMeaning", desc := "(I)Z" } : Jvm.MethodName) prog_9_method_10_code (1 : Nat) (Option.some Jvm.ClassFile.FieldType.boolean)) ∈ lw_all := lw_g (lw_at lw_m6 216 rfl) rfl
theorem q1533 : (Jvm.Cond.instanceMethod ({ cls := "TollOnVowelsModel", name := "sentence", desc := "(I)I" } : Jvm.MethodName)) ∈ lw_all := lw_g (lw_at lw_m6 218 rfl) rfl
theorem q1534 : (Jvm.Cond.selects "TollOnVowelsModel" ({ cls := "TollOnVowelsModel", name := "sentence", desc := "(I)I" } : Jvm.MethodName) ({ cls := "TollOnVowelsModel", name := "sentence", desc := "(I)I" } : Jvm.MethodName)) ∈ lw_all := lw_g (lw_at lw_m6 219 rfl) rfl
theorem q1535 : (Jvm.Cond.code ({ cls := "TollOnVowelsModel", name := "sentence", desc := "(I)I" } : Jvm.MethodName) prog_9_method_68_code (5 : Nat) (Option.some Jvm.ClassFile.FieldType.int)) ∈ lw_all := lw_g (lw_at lw_m6 220 rfl) rfl
theorem q1536 : (Jvm.Cond.constant "TollOnVowelsModel" (319 : Nat) (100000000 : Int32)) ∈ lw_all := lw_g (lw_at lw_m6 221 rfl) rfl
theorem q1537 : (Jvm.Cond.methodLink "TollOnVowelsModel" (320 : Nat) ({ cls := "TollOnVowelsModel", name := "tells", desc := "(III)I" } : Jvm.MethodName)) ∈ lw_all := lw_g (lw_at lw_m6 222 rfl) rfl
theorem q1538 : (Jvm.Cond.privateMethod ({ cls := "TollOnVowelsModel", name := "tells", desc := "(III)I" } : Jvm.MethodName)) ∈ lw_tbl := lw_at lw_m6 223 rfl
theorem q1539 : (Jvm.Cond.instanceMethod ({ cls := "TollOnVowelsModel", name := "tells", desc := "(III)I" } : Jvm.MethodName)) ∈ lw_all := lw_g (lw_at lw_m6 224 rfl) rfl
theorem q1540 : (Jvm.Cond.code ({ cls := "TollOnVowelsModel", name := "tells", desc := "(III)I" } : Jvm.MethodName) prog_9_method_67_code (4 : Nat) (Option.some Jvm.ClassFile.FieldType.int)) ∈ lw_all := lw_g (lw_at lw_m6 225 rfl) rfl
theorem q1542 : (Jvm.Cond.instanceMethod ({ cls := "TollOnVowelsModel", name := "when", desc := "(II)I" } : Jvm.MethodName)) ∈ lw_all := lw_g (lw_at lw_m6 227 rfl) rfl
theorem q1543 : (Jvm.Cond.selects "TollOnVowelsModel" ({ cls := "TollOnVowelsModel", name := "when", desc := "(II)I" } : Jvm.MethodName) ({ cls := "TollOnVowelsModel", name := "when", desc := "(II)I" } : Jvm.MethodName)) ∈ lw_all := lw_g (lw_at lw_m6 228 rfl) rfl
theorem q1544 : (Jvm.Cond.code ({ cls := "TollOnVowelsModel", name := "when", desc := "(II)I" } : Jvm.MethodName) prog_9_method_69_code (5 : Nat) (Option.some Jvm.ClassFile.FieldType.int)) ∈ lw_all := lw_g (lw_at lw_m6 229 rfl) rfl
theorem q1546 : (Jvm.Cond.instanceMethod ({ cls := "TollOnVowelsModel", name := "shortest", desc := "(III)I" } : Jvm.MethodName)) ∈ lw_all := lw_g (lw_at lw_m6 231 rfl) rfl
theorem q1547 : (Jvm.Cond.selects "TollOnVowelsModel" ({ cls := "TollOnVowelsModel", name := "shortest", desc := "(III)I" } : Jvm.MethodName) ({ cls := "TollOnVowelsModel", name := "shortest", desc := "(III)I" } : Jvm.MethodName)) ∈ lw_all := lw_g (lw_at lw_m6 232 rfl) rfl
theorem q1548 : (Jvm.Cond.code ({ cls := "TollOnVowelsModel", name := "shortest", desc := "(III)I" } : Jvm.MethodName) prog_9_method_70_code (6 : Nat) (Option.some Jvm.ClassFile.FieldType.int)) ∈ lw_all := lw_g (lw_at lw_m6 233 rfl) rfl
theorem q1550 : (Jvm.Cond.instanceMethod ({ cls := "TollOnVowelsModel", name := "differ", desc := "(II)I" } : Jvm.MethodName)) ∈ lw_all := lw_g (lw_at lw_m6 235 rfl) rfl
theorem q1551 : (Jvm.Cond.selects "TollOnVowelsModel" ({ cls := "TollOnVowelsModel", name := "differ", desc := "(II)I" } : Jvm.MethodName) ({ cls := "TollOnVowelsModel", name := "differ", desc := "(II)I" } : Jvm.MethodName)) ∈ lw_all := lw_g (lw_at lw_m6 236 rfl) rfl
theorem q1552 : (Jvm.Cond.code ({ cls := "TollOnVowelsModel", name := "differ", desc := "(II)I" } : Jvm.MethodName) prog_9_method_74_code (3 : Nat) (Option.some Jvm.ClassFile.FieldType.int)) ∈ lw_all := lw_g (lw_at lw_m6 237 rfl) rfl
theorem q1553 : (Jvm.Cond.methodLink "TollOnVowelsModel" (330 : Nat) ({ cls := "TollOnVowelsModel", name := "differBy", desc := "(IIZ)I" } : Jvm.MethodName)) ∈ lw_all := lw_g (lw_at lw_m6 238 rfl) rfl
theorem q1554 : (Jvm.Cond.privateMethod ({ cls := "TollOnVowelsModel", name := "differBy", desc := "(IIZ)I" } : Jvm.MethodName)) ∈ lw_tbl := lw_at lw_m6 239 rfl
theorem q1555 : (Jvm.Cond.instanceMethod ({ cls := "TollOnVowelsModel", name := "differBy", desc := "(IIZ)I" } : Jvm.MethodName)) ∈ lw_all := lw_g (lw_at lw_m7 0 rfl) rfl
theorem q1556 : (Jvm.Cond.code ({ cls := "TollOnVowelsModel", name := "differBy", desc := "(IIZ)I" } : Jvm.MethodName) prog_9_method_73_code (4 : Nat) (Option.some Jvm.ClassFile.FieldType.int)) ∈ lw_all := lw_g (lw_at lw_m7 1 rfl) rfl
theorem q1557 : (Jvm.Cond.methodLink "TollOnVowelsModel" (323 : Nat) ({ cls := "TollOnVowelsModel", name := "layWord", desc := "(I[IZ)I" } : Jvm.MethodName)) ∈ lw_all := lw_g (lw_at lw_m7 2 rfl) rfl
theorem q1558 : (Jvm.Cond.privateMethod ({ cls := "TollOnVowelsModel", name := "layWord", desc := "(I[IZ)I" } : Jvm.MethodName)) ∈ lw_tbl := lw_at lw_m7 3 rfl
theorem q1559 : (Jvm.Cond.instanceMethod ({ cls := "TollOnVowelsModel", name := "layWord", desc := "(I[IZ)I" } : Jvm.MethodName)) ∈ lw_all := lw_g (lw_at lw_m7 4 rfl) rfl
theorem q1560 : (Jvm.Cond.code ({ cls := "TollOnVowelsModel", name := "layWord", desc := "(I[IZ)I" } : Jvm.MethodName) prog_9_method_72_code (6 : Nat) (Option.some Jvm.ClassFile.FieldType.int)) ∈ lw_all := lw_g (lw_at lw_m7 5 rfl) rfl
theorem q1561 : (Jvm.Cond.methodLink "TollOnVowelsModel" (327 : Nat) ({ cls := "TollOnVowelsModel", name := "changesOf", desc := "(II)I" } : Jvm.MethodName)) ∈ lw_all := lw_g (lw_at lw_m7 6 rfl) rfl
theorem q1562 : (Jvm.Cond.privateMethod ({ cls := "TollOnVowelsModel", name := "changesOf", desc := "(II)I" } : Jvm.MethodName)) ∈ lw_tbl := lw_at lw_m7 7 rfl
theorem q1563 : (Jvm.Cond.instanceMethod ({ cls := "TollOnVowelsModel", name := "changesOf", desc := "(II)I" } : Jvm.MethodName)) ∈ lw_all := lw_g (lw_at lw_m7 8 rfl) rfl
theorem q1564 : (Jvm.Cond.code ({ cls := "TollOnVowelsModel", name := "changesOf", desc := "(II)I" } : Jvm.MethodName) prog_9_method_71_code (7 : Nat) (Option.some Jvm.ClassFile.FieldType.int)) ∈ lw_all := lw_g (lw_at lw_m7 9 rfl) rfl
theorem q1566 : (Jvm.Cond.instanceMethod ({ cls := "TollOnVowelsModel", name := "near", desc := "(I)I" } : Jvm.MethodName)) ∈ lw_all := lw_g (lw_at lw_m7 11 rfl) rfl
theorem q1567 : (Jvm.Cond.selects "TollOnVowelsModel" ({ cls := "TollOnVowelsModel", name := "near", desc := "(I)I" } : Jvm.MethodName) ({ cls := "TollOnVowelsModel", name := "near", desc := "(I)I" } : Jvm.MethodName)) ∈ lw_all := lw_g (lw_at lw_m7 12 rfl) rfl
theorem q1568 : (Jvm.Cond.code ({ cls := "TollOnVowelsModel", name := "near", desc := "(I)I" } : Jvm.MethodName) prog_9_method_76_code (4 : Nat) (Option.some Jvm.ClassFile.FieldType.int)) ∈ lw_all := lw_g (lw_at lw_m7 13 rfl) rfl
theorem q1569 : (Jvm.Cond.methodLink "TollOnVowelsModel" (334 : Nat) ({ cls := "TollOnVowelsModel", name := "share", desc := "(II)Z" } : Jvm.MethodName)) ∈ lw_all := lw_g (lw_at lw_m7 14 rfl) rfl
theorem q1570 : (Jvm.Cond.privateMethod ({ cls := "TollOnVowelsModel", name := "share", desc := "(II)Z" } : Jvm.MethodName)) ∈ lw_tbl := lw_at lw_m7 15 rfl
theorem q1571 : (Jvm.Cond.instanceMethod ({ cls := "TollOnVowelsModel", name := "share", desc := "(II)Z" } : Jvm.MethodName)) ∈ lw_all := lw_g (lw_at lw_m7 16 rfl) rfl
theorem q1572 : (Jvm.Cond.code ({ cls := "TollOnVowelsModel", name := "share", desc := "(II)Z" } : Jvm.MethodName) prog_9_method_75_code (3 : Nat) (Option.some Jvm.ClassFile.FieldType.boolean)) ∈ lw_all := lw_g (lw_at lw_m7 17 rfl) rfl
theorem q1574 : (Jvm.Cond.instanceMethod ({ cls := "TollOnVowelsModel", name := "heard", desc := "(III)I" } : Jvm.MethodName)) ∈ lw_all := lw_g (lw_at lw_m7 19 rfl) rfl
theorem q1575 : (Jvm.Cond.selects "TollOnVowelsModel" ({ cls := "TollOnVowelsModel", name := "heard", desc := "(III)I" } : Jvm.MethodName) ({ cls := "TollOnVowelsModel", name := "heard", desc := "(III)I" } : Jvm.MethodName)) ∈ lw_all := lw_g (lw_at lw_m7 20 rfl) rfl
theorem q1576 : (Jvm.Cond.code ({ cls := "TollOnVowelsModel", name := "heard", desc := "(III)I" } : Jvm.MethodName) prog_9_method_79_code (12 : Nat) (Option.some Jvm.ClassFile.FieldType.int)) ∈ lw_all := lw_g (lw_at lw_m7 21 rfl) rfl
theorem q1577 : (Jvm.Cond.methodLink "TollOnVowelsModel" (341 : Nat) ({ cls := "TollOnVowelsModel", name := "power", desc := "(JI)J" } : Jvm.MethodName)) ∈ lw_all := lw_g (lw_at lw_m7 22 rfl) rfl
theorem q1578 : (Jvm.Cond.static ({ cls := "TollOnVowelsModel", name := "power", desc := "(JI)J" } : Jvm.MethodName)) ∈ lw_all := lw_g (lw_at lw_m7 23 rfl) rfl
theorem q1579 : (Jvm.Cond.code ({ cls := "TollOnVowelsModel", name := "power", desc := "(JI)J" } : Jvm.MethodName) prog_9_method_78_code (6 : Nat) (Option.some Jvm.ClassFile.FieldType.long)) ∈ lw_all := lw_g (lw_at lw_m7 24 rfl) rfl
theorem q1580 : (Jvm.Cond.constantLong "TollOnVowelsModel" (345 : Nat) (10 : Int64)) ∈ lw_all := lw_g (lw_at lw_m7 25 rfl) rfl
theorem q1581 : (Jvm.Cond.methodLink "TollOnVowelsModel" (337 : Nat) ({ cls := "TollOnVowelsModel", name := "common", desc := "(JJ)J" } : Jvm.MethodName)) ∈ lw_all := lw_g (lw_at lw_m7 26 rfl) rfl
theorem q1582 : (Jvm.Cond.static ({ cls := "TollOnVowelsModel", name := "common", desc := "(JJ)J" } : Jvm.MethodName)) ∈ lw_all := lw_g (lw_at lw_m7 27 rfl) rfl
theorem q1583 : (Jvm.Cond.code ({ cls := "TollOnVowelsModel", name := "common", desc := "(JJ)J" } : Jvm.MethodName) prog_9_method_77_code (4 : Nat) (Option.some Jvm.ClassFile.FieldType.long)) ∈ lw_all := lw_g (lw_at lw_m7 28 rfl) rfl
theorem q1585 : (Jvm.Cond.instanceMethod ({ cls := "TollOnVowelsModel", name := "code", desc := "(I)I" } : Jvm.MethodName)) ∈ lw_all := lw_g (lw_at lw_m7 30 rfl) rfl
theorem q1586 : (Jvm.Cond.selects "TollOnVowelsModel" ({ cls := "TollOnVowelsModel", name := "code", desc := "(I)I" } : Jvm.MethodName) ({ cls := "TollOnVowelsModel", name := "code", desc := "(I)I" } : Jvm.MethodName)) ∈ lw_all := lw_g (lw_at lw_m7 31 rfl) rfl
theorem q1587 : (Jvm.Cond.code ({ cls := "TollOnVowelsModel", name := "code", desc := "(I)I" } : Jvm.MethodName) prog_9_method_82_code (5 : Nat) (Option.some Jvm.ClassFile.FieldType.int)) ∈ lw_all := lw_g (lw_at lw_m7 32 rfl) rfl
theorem q1588 : (Jvm.Cond.methodLink "TollOnVowelsModel" (347 : Nat) ({ cls := "java/lang/Integer", name := "bitCount", desc := "(I)I" } : Jvm.MethodName)) ∈ lw_all := lw_g (lw_at lw_m7 33 rfl) rfl
theorem q1589 : (Jvm.Cond.methodLink "TollOnVowelsModel" (352 : Nat) ({ cls := "TollOnVowelsModel", name := "tollsOf", desc := "(II)I" } : Jvm.MethodName)) ∈ lw_all := lw_g (lw_at lw_m7 34 rfl) rfl
theorem q1590 : (Jvm.Cond.privateMethod ({ cls := "TollOnVowelsModel", name := "tollsOf", desc := "(II)I" } : Jvm.MethodName)) ∈ lw_tbl := lw_at lw_m7 35 rfl
theorem q1591 : (Jvm.Cond.instanceMethod ({ cls := "TollOnVowelsModel", name := "tollsOf", desc := "(II)I" } : Jvm.MethodName)) ∈ lw_all := lw_g (lw_at lw_m7 36 rfl) rfl
theorem q1592 : (Jvm.Cond.code ({ cls := "TollOnVowelsModel", name := "tollsOf", desc := "(II)I" } : Jvm.MethodName) prog_9_method_81_code (5 : Nat) (Option.some Jvm.ClassFile.FieldType.int)) ∈ lw_all := lw_g (lw_at lw_m7 37 rfl) rfl
theorem q1593 : (Jvm.Cond.methodLink "TollOnVowelsModel" (355 : Nat) ({ cls := "TollOnVowelsModel", name := "areApart", desc := "(II)Z" } : Jvm.MethodName)) ∈ lw_all := lw_g (lw_at lw_m7 38 rfl) rfl
theorem q1594 : (Jvm.Cond.privateMethod ({ cls := "TollOnVowelsModel", name := "areApart", desc := "(II)Z" } : Jvm.MethodName)) ∈ lw_tbl := lw_at lw_m7 39 rfl
theorem q1595 : (Jvm.Cond.instanceMethod ({ cls := "TollOnVowelsModel", name := "areApart", desc := "(II)Z" } : Jvm.MethodName)) ∈ lw_all := lw_g (lw_at lw_m7 40 rfl) rfl
theorem q1596 : (Jvm.Cond.code ({ cls := "TollOnVowelsModel", name := "areApart", desc := "(II)Z" } : Jvm.MethodName) prog_9_method_80_code (5 : Nat) (Option.some Jvm.ClassFile.FieldType.boolean)) ∈ lw_all := lw_g (lw_at lw_m7 41 rfl) rfl
theorem q1598 : (Jvm.Cond.instanceMethod ({ cls := "TollOnVowelsModel", name := "trip", desc := "(II)I" } : Jvm.MethodName)) ∈ lw_all := lw_g (lw_at lw_m7 43 rfl) rfl
theorem q1599 : (Jvm.Cond.selects "TollOnVowelsModel" ({ cls := "TollOnVowelsModel", name := "trip", desc := "(II)I" } : Jvm.MethodName) ({ cls := "TollOnVowelsModel", name := "trip", desc := "(II)I" } : Jvm.MethodName)) ∈ lw_all := lw_g (lw_at lw_m7 44 rfl) rfl
theorem q1600 : (Jvm.Cond.code ({ cls := "TollOnVowelsModel", name := "trip", desc := "(II)I" } : Jvm.MethodName) prog_9_method_87_code (4 : Nat) (Option.some Jvm.ClassFile.FieldType.int)) ∈ lw_all := lw_g (lw_at lw_m7 45 rfl) rfl
theorem q1601 : (Jvm.Cond.methodLink "TollOnVowelsModel" (377 : Nat) ({ cls := "TollOnVowelsModel", name := "leastTrip", desc := "(II)I" } : Jvm.MethodName)) ∈ lw_all := lw_g (lw_at lw_m7 46 rfl) rfl
theorem q1602 : (Jvm.Cond.privateMethod ({ cls := "TollOnVowelsModel", name := "leastTrip", desc := "(II)I" } : Jvm.MethodName)) ∈ lw_tbl := lw_at lw_m7 47 rfl
theorem q1603 : (Jvm.Cond.instanceMethod ({ cls := "TollOnVowelsModel", name := "leastTrip", desc := "(II)I" } : Jvm.MethodName)) ∈ lw_all := lw_g (lw_at lw_m7 48 rfl) rfl
theorem q1604 : (Jvm.Cond.code ({ cls := "TollOnVowelsModel", name := "leastTrip", desc := "(II)I" } : Jvm.MethodName) prog_9_method_86_code (8 : Nat) (Option.some Jvm.ClassFile.FieldType.int)) ∈ lw_all := lw_g (lw_at lw_m7 49 rfl) rfl
theorem q1605 : (Jvm.Cond.methodLink "TollOnVowelsModel" (367 : Nat) ({ cls := "TollOnVowelsModel", name := "move", desc := "()V" } : Jvm.MethodName)) ∈ lw_all := lw_g (lw_at lw_m7 50 rfl) rfl
theorem q1606 : (Jvm.Cond.privateMethod ({ cls := "TollOnVowelsModel", name := "move", desc := "()V" } : Jvm.MethodName)) ∈ lw_tbl := lw_at lw_m7 51 rfl
theorem q1607 : (Jvm.Cond.instanceMethod ({ cls := "TollOnVowelsModel", name := "move", desc := "()V" } : Jvm.MethodName)) ∈ lw_all := lw_g (lw_at lw_m7 52 rfl) rfl
theorem q1608 : (Jvm.Cond.code ({ cls := "TollOnVowelsModel", name := "move", desc := "()V" } : Jvm.MethodName) prog_9_method_85_code (4 : Nat) (Option.none : Option Jvm.ClassFile.FieldType)) ∈ lw_all := lw_g (lw_at lw_m7 53 rfl) rfl
theorem q1609 : (Jvm.Cond.methodLink "TollOnVowelsModel" (370 : Nat) ({ cls := "TollOnVowelsModel", name := "speak", desc := "(II)V" } : Jvm.MethodName)) ∈ lw_all := lw_g (lw_at lw_m7 54 rfl) rfl
theorem q1610 : (Jvm.Cond.privateMethod ({ cls := "TollOnVowelsModel", name := "speak", desc := "(II)V" } : Jvm.MethodName)) ∈ lw_tbl := lw_at lw_m7 55 rfl
theorem q1611 : (Jvm.Cond.instanceMethod ({ cls := "TollOnVowelsModel", name := "speak", desc := "(II)V" } : Jvm.MethodName)) ∈ lw_all := lw_g (lw_at lw_m7 56 rfl) rfl
theorem q1612 : (Jvm.Cond.code ({ cls := "TollOnVowelsModel", name := "speak", desc := "(II)V" } : Jvm.MethodName) prog_9_method_84_code (8 : Nat) (Option.none : Option Jvm.ClassFile.FieldType)) ∈ lw_all := lw_g (lw_at lw_m7 57 rfl) rfl
theorem q1613 : (Jvm.Cond.methodLink "TollOnVowelsModel" (358 : Nat) ({ cls := "TollOnVowelsModel", name := "does", desc := "(III)I" } : Jvm.MethodName)) ∈ lw_all := lw_g (lw_at lw_m7 58 rfl) rfl
theorem q1614 : (Jvm.Cond.privateMethod ({ cls := "TollOnVowelsModel", name := "does", desc := "(III)I" } : Jvm.MethodName)) ∈ lw_tbl := lw_at lw_m7 59 rfl
theorem q1615 : (Jvm.Cond.instanceMethod ({ cls := "TollOnVowelsModel", name := "does", desc := "(III)I" } : Jvm.MethodName)) ∈ lw_all := lw_g (lw_at lw_m7 60 rfl) rfl
theorem q1616 : (Jvm.Cond.code ({ cls := "TollOnVowelsModel", name := "does", desc := "(III)I" } : Jvm.MethodName) prog_9_method_83_code (6 : Nat) (Option.some Jvm.ClassFile.FieldType.int)) ∈ lw_all := lw_g (lw_at lw_m7 61 rfl) rfl
theorem q1618 : (Jvm.Cond.instanceMethod ({ cls := "TollOnVowelsModel", name := "haste", desc := "(I)I" } : Jvm.MethodName)) ∈ lw_all := lw_g (lw_at lw_m7 63 rfl) rfl
theorem q1619 : (Jvm.Cond.selects "TollOnVowelsModel" ({ cls := "TollOnVowelsModel", name := "haste", desc := "(I)I" } : Jvm.MethodName) ({ cls := "TollOnVowelsModel", name := "haste", desc := "(I)I" } : Jvm.MethodName)) ∈ lw_all := lw_g (lw_at lw_m7 64 rfl) rfl
theorem q1620 : (Jvm.Cond.code ({ cls := "TollOnVowelsModel", name := "haste", desc := "(I)I" } : Jvm.MethodName) prog_9_method_88_code (2 : Nat) (Option.some Jvm.ClassFile.FieldType.int)) ∈ lw_all := lw_g (lw_at lw_m7 65 rfl) rfl
theorem q1622 : (Jvm.Cond.instanceMethod ({ cls := "TollOnVowelsModel", name := "best", desc := "(I)I" } : Jvm.MethodName)) ∈ lw_all := lw_g (lw_at lw_m7 67 rfl) rfl
theorem q1623 : (Jvm.Cond.selects "TollOnVowelsModel" ({ cls := "TollOnVowelsModel", name := "best", desc := "(I)I" } : Jvm.MethodName) ({ cls := "TollOnVowelsModel", name := "best", desc := "(I)I" } : Jvm.MethodName)) ∈ lw_all := lw_g (lw_at lw_m7 68 rfl) rfl
theorem q1624 : (Jvm.Cond.code ({ cls := "TollOnVowelsModel", name := "best", desc := "(I)I" } : Jvm.MethodName) prog_9_method_89_code (10 : Nat) (Option.some Jvm.ClassFile.FieldType.int)) ∈ lw_all := lw_g (lw_at lw_m7 69 rfl) rfl
theorem q1626 : (Jvm.Cond.instanceMethod ({ cls := "TollOnVowelsModel", name := "takes", desc := "(II)I" } : Jvm.MethodName)) ∈ lw_all := lw_g (lw_at lw_m7 71 rfl) rfl
theorem q1627 : (Jvm.Cond.selects "TollOnVowelsModel" ({ cls := "TollOnVowelsModel", name := "takes", desc := "(II)I" } : Jvm.MethodName) ({ cls := "TollOnVowelsModel", name := "takes", desc := "(II)I" } : Jvm.MethodName)) ∈ lw_all := lw_g (lw_at lw_m7 72 rfl) rfl
theorem q1628 : (Jvm.Cond.code ({ cls := "TollOnVowelsModel", name := "takes", desc := "(II)I" } : Jvm.MethodName) prog_9_method_91_code (4 : Nat) (Option.some Jvm.ClassFile.FieldType.int)) ∈ lw_all := lw_g (lw_at lw_m7 73 rfl) rfl
theorem q1629 : (Jvm.Cond.methodLink "TollOnVowelsModel" (383 : Nat) ({ cls := "TollOnVowelsModel", name := "takesBy", desc := "(II)I" } : Jvm.MethodName)) ∈ lw_all := lw_g (lw_at lw_m7 74 rfl) rfl
theorem q1630 : (Jvm.Cond.privateMethod ({ cls := "TollOnVowelsModel", name := "takesBy", desc := "(II)I" } : Jvm.MethodName)) ∈ lw_tbl := lw_at lw_m7 75 rfl
theorem q1631 : (Jvm.Cond.instanceMethod ({ cls := "TollOnVowelsModel", name := "takesBy", desc := "(II)I" } : Jvm.MethodName)) ∈ lw_all := lw_g (lw_at lw_m7 76 rfl) rfl
theorem q1632 : (Jvm.Cond.code ({ cls := "TollOnVowelsModel", name := "takesBy", desc := "(II)I" } : Jvm.MethodName) prog_9_method_90_code (7 : Nat) (Option.some Jvm.ClassFile.FieldType.int)) ∈ lw_all := lw_g (lw_at lw_m7 77 rfl) rfl
theorem q1634 : (Jvm.Cond.instanceMethod ({ cls := "TollOnVowelsModel", name := "greed", desc := "(I)I" } : Jvm.MethodName)) ∈ lw_all := lw_g (lw_at lw_m7 79 rfl) rfl
theorem q1635 : (Jvm.Cond.selects "TollOnVowelsModel" ({ cls := "TollOnVowelsModel", name := "greed", desc := "(I)I" } : Jvm.MethodName) ({ cls := "TollOnVowelsModel", name := "greed", desc := "(I)I" } : Jvm.MethodName)) ∈ lw_all := lw_g (lw_at lw_m7 80 rfl) rfl
theorem q1636 : (Jvm.Cond.code ({ cls := "TollOnVowelsModel", name := "greed", desc := "(I)I" } : Jvm.MethodName) prog_9_method_92_code (7 : Nat) (Option.some Jvm.ClassFile.FieldType.int)) ∈ lw_all := lw_g (lw_at lw_m7 81 rfl) rfl
theorem q1638 : (Jvm.Cond.instanceMethod ({ cls := "TollOnVowelsModel", name := "law", desc := "(I)I" } : Jvm.MethodName)) ∈ lw_all := lw_g (lw_at lw_m7 83 rfl) rfl
theorem q1639 : (Jvm.Cond.selects "TollOnVowelsModel" ({ cls := "TollOnVowelsModel", name := "law", desc := "(I)I" } : Jvm.MethodName) ({ cls := "TollOnVowelsModel", name := "law", desc := "(I)I" } : Jvm.MethodName)) ∈ lw_all := lw_g (lw_at lw_m7 84 rfl) rfl
theorem q1640 : (Jvm.Cond.code ({ cls := "TollOnVowelsModel", name := "law", desc := "(I)I" } : Jvm.MethodName) prog_9_method_93_code (10 : Nat) (Option.some Jvm.ClassFile.FieldType.int)) ∈ lw_all := lw_g (lw_at lw_m7 85 rfl) rfl
theorem q1642 : (Jvm.Cond.instanceMethod ({ cls := "TollOnVowelsModel", name := "said", desc := "()I" } : Jvm.MethodName)) ∈ lw_all := lw_g (lw_at lw_m7 87 rfl) rfl
theorem q1643 : (Jvm.Cond.selects "TollOnVowelsModel" ({ cls := "TollOnVowelsModel", name := "said", desc := "()I" } : Jvm.MethodName) ({ cls := "TollOnVowelsModel", name := "said", desc := "()I" } : Jvm.MethodName)) ∈ lw_all := lw_g (lw_at lw_m7 88 rfl) rfl
theorem q1644 : (Jvm.Cond.code ({ cls := "TollOnVowelsModel", name := "said", desc := "()I" } : Jvm.MethodName) prog_9_method_98_code (2 : Nat) (Option.some Jvm.ClassFile.FieldType.int)) ∈ lw_all := lw_g (lw_at lw_m7 89 rfl) rfl
theorem q1645 : (Jvm.Cond.methodLink "TollOnVowelsModel" (401 : Nat) ({ cls := "TollOnVowelsModel", name := "goSaid", desc := "(II)V" } : Jvm.MethodName)) ∈ lw_all := lw_g (lw_at lw_m7 90 rfl) rfl
theorem q1646 : (Jvm.Cond.privateMethod ({ cls := "TollOnVowelsModel", name := "goSaid", desc := "(II)V" } : Jvm.MethodName)) ∈ lw_tbl := lw_at lw_m7 91 rfl
theorem q1647 : (Jvm.Cond.instanceMethod ({ cls := "TollOnVowelsModel", name := "goSaid", desc := "(II)V" } : Jvm.MethodName)) ∈ lw_all := lw_g (lw_at lw_m7 92 rfl) rfl
theorem q1648 : (Jvm.Cond.code ({ cls := "TollOnVowelsModel", name := "goSaid", desc := "(II)V" } : Jvm.MethodName) prog_9_method_97_code (4 : Nat) (Option.none : Option Jvm.ClassFile.FieldType)) ∈ lw_all := lw_g (lw_at lw_m7 93 rfl) rfl
theorem q1649 : (Jvm.Cond.methodLink "TollOnVowelsModel" (392 : Nat) ({ cls := "TollOnVowelsModel", name := "isAll", desc := "()Z" } : Jvm.MethodName)) ∈ lw_all := lw_g (lw_at lw_m7 94 rfl) rfl
theorem q1650 : (Jvm.Cond.privateMethod ({ cls := "TollOnVowelsModel", name := "isAll", desc := "()Z" } : Jvm.MethodName)) ∈ lw_tbl := lw_at lw_m7 95 rfl
theorem q1651 : (Jvm.Cond.instanceMethod ({ cls := "TollOnVowelsModel", name := "isAll", desc := "()Z" } : Jvm.MethodName)) ∈ lw_all := lw_g (lw_at lw_m7 96 rfl) rfl
theorem q1652 : (Jvm.Cond.code ({ cls := "TollOnVowelsModel", name := "isAll", desc := "()Z" } : Jvm.MethodName) prog_9_method_94_code (5 : Nat) (Option.some Jvm.ClassFile.FieldType.boolean)) ∈ lw_all := lw_g (lw_at lw_m7 97 rfl) rfl
theorem q1653 : (Jvm.Cond.methodLink "TollOnVowelsModel" (395 : Nat) ({ cls := "TollOnVowelsModel", name := "isFirst", desc := "(I)Z" } : Jvm.MethodName)) ∈ lw_all := lw_g (lw_at lw_m7 98 rfl) rfl
theorem q1654 : (Jvm.Cond.privateMethod ({ cls := "TollOnVowelsModel", name := "isFirst", desc := "(I)Z" } : Jvm.MethodName)) ∈ lw_tbl := lw_at lw_m7 99 rfl
theorem q1655 : (Jvm.Cond.instanceMethod ({ cls := "TollOnVowelsModel", name := "isFirst", desc := "(I)Z" } : Jvm.MethodName)) ∈ lw_all := lw_g (lw_at lw_m7 100 rfl) rfl
theorem q1656 : (Jvm.Cond.code ({ cls := "TollOnVowelsModel", name := "isFirst", desc := "(I)Z" } : Jvm.MethodName) prog_9_method_96_code (3 : Nat) (Option.some Jvm.ClassFile.FieldType.boolean)) ∈ lw_all := lw_g (lw_at lw_m7 101 rfl) rfl
theorem q1657 : (Jvm.Cond.methodLink "TollOnVowelsModel" (398 : Nat) ({ cls := "TollOnVowelsModel", name := "take", desc := "(II)V" } : Jvm.MethodName)) ∈ lw_all := lw_g (lw_at lw_m7 102 rfl) rfl
theorem q1658 : (Jvm.Cond.privateMethod ({ cls := "TollOnVowelsModel", name := "take", desc := "(II)V" } : Jvm.MethodName)) ∈ lw_tbl := lw_at lw_m7 103 rfl
theorem q1659 : (Jvm.Cond.instanceMethod ({ cls := "TollOnVowelsModel", name := "take", desc := "(II)V" } : Jvm.MethodName)) ∈ lw_all := lw_g (lw_at lw_m7 104 rfl) rfl
theorem q1660 : (Jvm.Cond.code ({ cls := "TollOnVowelsModel", name := "take", desc := "(II)V" } : Jvm.MethodName) prog_9_method_95_code (4 : Nat) (Option.none : Option Jvm.ClassFile.FieldType)) ∈ lw_all := lw_g (lw_at lw_m7 105 rfl) rfl
theorem q1662 : (Jvm.Cond.instanceMethod ({ cls := "TollOnVowelsModel", name := "ask", desc := "()I" } : Jvm.MethodName)) ∈ lw_all := lw_g (lw_at lw_m7 107 rfl) rfl
theorem q1663 : (Jvm.Cond.selects "TollOnVowelsModel" ({ cls := "TollOnVowelsModel", name := "ask", desc := "()I" } : Jvm.MethodName) ({ cls := "TollOnVowelsModel", name := "ask", desc := "()I" } : Jvm.MethodName)) ∈ lw_all := lw_g (lw_at lw_m7 108 rfl) rfl
theorem q1664 : (Jvm.Cond.code ({ cls := "TollOnVowelsModel", name := "ask", desc := "()I" } : Jvm.MethodName) prog_9_method_99_code (8 : Nat) (Option.some Jvm.ClassFile.FieldType.int)) ∈ lw_all := lw_g (lw_at lw_m7 109 rfl) rfl
theorem q1666 : (Jvm.Cond.instanceMethod ({ cls := "TollOnVowelsModel", name := "years", desc := "(II)I" } : Jvm.MethodName)) ∈ lw_all := lw_g (lw_at lw_m7 111 rfl) rfl
theorem q1667 : (Jvm.Cond.selects "TollOnVowelsModel" ({ cls := "TollOnVowelsModel", name := "years", desc := "(II)I" } : Jvm.MethodName) ({ cls := "TollOnVowelsModel", name := "years", desc := "(II)I" } : Jvm.MethodName)) ∈ lw_all := lw_g (lw_at lw_m7 112 rfl) rfl
theorem q1668 : (Jvm.Cond.code ({ cls := "TollOnVowelsModel", name := "years", desc := "(II)I" } : Jvm.MethodName) prog_9_method_101_code (11 : Nat) (Option.some Jvm.ClassFile.FieldType.int)) ∈ lw_all := lw_g (lw_at lw_m7 113 rfl) rfl
theorem q1669 : (Jvm.Cond.methodLink "TollOnVowelsModel" (408 : Nat) ({ cls := "TollOnVowelsModel", name := "draw", desc := "(I)I" } : Jvm.MethodName)) ∈ lw_all := lw_g (lw_at lw_m7 114 rfl) rfl
theorem q1670 : (Jvm.Cond.privateMethod ({ cls := "TollOnVowelsModel", name := "draw", desc := "(I)I" } : Jvm.MethodName)) ∈ lw_tbl := lw_at lw_m7 115 rfl
theorem q1671 : (Jvm.Cond.instanceMethod ({ cls := "TollOnVowelsModel", name := "draw", desc := "(I)I" } : Jvm.MethodName)) ∈ lw_all := lw_g (lw_at lw_m7 116 rfl) rfl
theorem q1672 : (Jvm.Cond.code ({ cls := "TollOnVowelsModel", name := "draw", desc := "(I)I" } : Jvm.MethodName) prog_9_method_100_code (2 : Nat) (Option.some Jvm.ClassFile.FieldType.int)) ∈ lw_all := lw_g (lw_at lw_m7 117 rfl) rfl
theorem q1673 : (Jvm.Cond.constant "TollOnVowelsModel" (407 : Nat) (1103515245 : Int32)) ∈ lw_all := lw_g (lw_at lw_m7 118 rfl) rfl
theorem q1675 : (Jvm.Cond.instanceMethod ({ cls := "TollOnVowelsModel", name := "keep", desc := "(I)Z" } : Jvm.MethodName)) ∈ lw_all := lw_g (lw_at lw_m7 120 rfl) rfl
theorem q1676 : (Jvm.Cond.selects "TollOnVowelsModel" ({ cls := "TollOnVowelsModel", name := "keep", desc := "(I)Z" } : Jvm.MethodName) ({ cls := "TollOnVowelsModel", name := "keep", desc := "(I)Z" } : Jvm.MethodName)) ∈ lw_all := lw_g (lw_at lw_m7 121 rfl) rfl
theorem q1677 : (Jvm.Cond.code ({ cls := "TollOnVowelsModel", name := "keep", desc := "(I)Z" } : Jvm.MethodName) prog_9_method_102_code (2 : Nat) (Option.some Jvm.ClassFile.FieldType.boolean)) ∈ lw_all := lw_g (lw_at lw_m7 122 rfl) rfl
theorem q1679 : (Jvm.Cond.instanceMethod ({ cls := "TollOnVowelsModel", name := "again", desc := "(I)Z" } : Jvm.MethodName)) ∈ lw_all := lw_g (lw_at lw_m7 124 rfl) rfl
theorem q1680 : (Jvm.Cond.selects "TollOnVowelsModel" ({ cls := "TollOnVowelsModel", name := "again", desc := "(I)Z" } : Jvm.MethodName) ({ cls := "TollOnVowelsModel", name := "again", desc := "(I)Z" } : Jvm.MethodName)) ∈ lw_all := lw_g (lw_at lw_m7 125 rfl) rfl
theorem q1681 : (Jvm.Cond.code ({ cls := "TollOnVowelsModel", name := "again", desc := "(I)Z" } : Jvm.MethodName) prog_9_method_103_code (3 : Nat) (Option.some Jvm.ClassFile.FieldType.boolean)) ∈ lw_all := lw_g (lw_at lw_m7 126 rfl) rfl
theorem q1683 : (Jvm.Cond.instanceMethod ({ cls := "TollOnVowelsModel", name := "count", desc := "(I)I" } : Jvm.MethodName)) ∈ lw_all := lw_g (lw_at lw_m7 128 rfl) rfl
theorem q1684 : (Jvm.Cond.selects "TollOnVowelsModel" ({ cls := "TollOnVowelsModel", name := "count", desc := "(I)I" } : Jvm.MethodName) ({ cls := "TollOnVowelsModel", name := "count", desc := "(I)I" } : Jvm.MethodName)) ∈ lw_all := lw_g (lw_at lw_m7 129 rfl) rfl
theorem q1685 : (Jvm.Cond.code ({ cls := "TollOnVowelsModel", name := "count", desc := "(I)I" } : Jvm.MethodName) prog_9_method_105_code (4 : Nat) (Option.some Jvm.ClassFile.FieldType.int)) ∈ lw_all := lw_g (lw_at lw_m7 130 rfl) rfl
theorem q1686 : (Jvm.Cond.methodLink "TollOnVowelsModel" (411 : Nat) ({ cls := "TollOnVowelsModel", name := "sumOf", desc := "(II)I" } : Jvm.MethodName)) ∈ lw_all := lw_g (lw_at lw_m7 131 rfl) rfl
theorem q1687 : (Jvm.Cond.privateMethod ({ cls := "TollOnVowelsModel", name := "sumOf", desc := "(II)I" } : Jvm.MethodName)) ∈ lw_tbl := lw_at lw_m7 132 rfl
theorem q1688 : (Jvm.Cond.instanceMethod ({ cls := "TollOnVowelsModel", name := "sumOf", desc := "(II)I" } : Jvm.MethodName)) ∈ lw_all := lw_g (lw_at lw_m7 133 rfl) rfl
theorem q1689 : (Jvm.Cond.code ({ cls := "TollOnVowelsModel", name := "sumOf", desc := "(II)I" } : Jvm.MethodName) prog_9_method_104_code (5 : Nat) (Option.some Jvm.ClassFile.FieldType.int)) ∈ lw_all := lw_g (lw_at lw_m7 134 rfl) rfl
theorem q1691 : (Jvm.Cond.instanceMethod ({ cls := "TollOnVowelsModel", name := "row", desc := "(I)J" } : Jvm.MethodName)) ∈ lw_all := lw_g (lw_at lw_m7 136 rfl) rfl
theorem q1692 : (Jvm.Cond.selects "TollOnVowelsModel" ({ cls := "TollOnVowelsModel", name := "row", desc := "(I)J" } : Jvm.MethodName) ({ cls := "TollOnVowelsModel", name := "row", desc := "(I)J" } : Jvm.MethodName)) ∈ lw_all := lw_g (lw_at lw_m7 137 rfl) rfl
theorem q1693 : (Jvm.Cond.code ({ cls := "TollOnVowelsModel", name := "row", desc := "(I)J" } : Jvm.MethodName) prog_9_method_106_code (2 : Nat) (Option.some Jvm.ClassFile.FieldType.long)) ∈ lw_all := lw_g (lw_at lw_m7 138 rfl) rfl
theorem q1697 : (Jvm.Cond.castable "TollOnVowelsModel" "java/lang/Object") ∈ lw_tbl := lw_at lw_m7 142 rfl
theorem in_X3 : ∀ w ∈ wsX30, w ∈ lw_all := lw_in wsX30 [1163, 1165, 1167, 1169, 1171, 1173, 1175, 1177, 1179, 1181, 1183, 1185, 1187, 1189, 1191, 1193, 1195, 1197, 1199, 1201, 1203, 1205, 1207, 1209, 1211, 1213, 1215, 1217, 1219, 1221, 1223, 1225, 1227, 1229, 1231, 1233, 1235, 1237, 1239, 1241, 1243, 1245, 1247, 1249, 1251, 1253, 1255, 1257, 1259, 1261, 1263, 1265, 1267, 1269, 1271, 1273] (by decide +kernel) (by decide +kernel)

def RX4 : String := "TollOnVowels$Node"
abbrev cX4_init : ByteArray := prog_4_method_1_code
def yX4_init : MethodName := ⟨RX4, "<init>", "(LTollOnVowels;)V"⟩
theorem q126 : (Jvm.Cond.initialized "TollOnVowels$Node") ∈ lw_all := lw_g (lw_at lw_m1 11 rfl) rfl
theorem q588 : (Jvm.Cond.instanceMethod ({ cls := "TollOnVowels$Node", name := "<init>", desc := "(LTollOnVowels;)V" } : Jvm.MethodName)) ∈ lw_all := lw_g (lw_at lw_m2 233 rfl) rfl
theorem q589 : (Jvm.Cond.code ({ cls := "TollOnVowels$Node", name := "<init>", desc := "(LTollOnVowels;)V" } : Jvm.MethodName) prog_4_method_1_code (2 : Nat) (Option.none : Option Jvm.ClassFile.FieldType)) ∈ lw_all := lw_g (lw_at lw_m2 234 rfl) rfl
theorem q590 : (Jvm.Cond.methodLink "TollOnVowels$Node" (7 : Nat) ({ cls := "java/lang/Object", name := "<init>", desc := "()V" } : Jvm.MethodName)) ∈ lw_all := lw_g (lw_at lw_m2 235 rfl) rfl
theorem q593 : (Jvm.Cond.fieldLink "TollOnVowels$Node" (1 : Nat) "TollOnVowels$Node" "this$0" "LTollOnVowels;") ∈ lw_all := lw_g (lw_at lw_m2 238 rfl) rfl
theorem q599 : (Jvm.Cond.soleField "TollOnVowels$Node" "this$0") ∈ lw_all := lw_g (lw_at lw_m3 4 rfl) rfl
theorem q692 : (Jvm.Cond.declares ({ cls := "TollOnVowels$Node", name := "value", desc := "()I" } : Jvm.MethodName)) ∈ lw_tbl := lw_at lw_m3 97 rfl
theorem q693 : (Jvm.Cond.sameMethod "TollOnVowels$Node" "TollOnVowels$Node" "value" "()I") ∈ lw_all := lw_g (lw_at lw_m3 98 rfl) rfl

def RX5 : String := "TollOnVowels$Less"
def TX5 : u_T := fun k => match k with
  | 0 => ("TollOnVowels$Node", "this$0", "LTollOnVowels;", true)
  | 1 => ("TollOnVowels$Less", "its", "LTollOnVowels$Node;", true)
  | _ => ("TollOnVowels$Less", "this$0", "LTollOnVowels;", true)
def tyX5 : Nat → FieldType := fun k => match k with
  | 0 => .object "TollOnVowels"
  | 1 => .object "TollOnVowels$Node"
  | _ => .object "TollOnVowels"
abbrev wsX50 : List Cond := u_ws RX5 TX5 3
-- two fields of one name: no nmX5
theorem tyX5_ok : ∀ k, k < 3 → parseFieldDescriptor (TX5 k).2.2.1 = some (tyX5 k) := by decide +kernel
abbrev cX5_init : ByteArray := prog_3_method_1_code
def yX5_init : MethodName := ⟨RX5, "<init>", "(LTollOnVowels;LTollOnVowels$Node;)V"⟩
abbrev cX5_value : ByteArray := prog_3_method_2_code
def yX5_value : MethodName := ⟨RX5, "value", "()I"⟩
theorem q127 : (Jvm.Cond.initialized "TollOnVowels$Less") ∈ lw_all := lw_g (lw_at lw_m1 12 rfl) rfl
theorem q583 : (Jvm.Cond.instantiable "TollOnVowels$Less" (3 : Nat)) ∈ lw_all := lw_g (lw_at lw_m2 228 rfl) rfl
theorem q585 : (Jvm.Cond.instanceMethod ({ cls := "TollOnVowels$Less", name := "<init>", desc := "(LTollOnVowels;LTollOnVowels$Node;)V" } : Jvm.MethodName)) ∈ lw_all := lw_g (lw_at lw_m2 230 rfl) rfl
theorem q586 : (Jvm.Cond.code ({ cls := "TollOnVowels$Less", name := "<init>", desc := "(LTollOnVowels;LTollOnVowels$Node;)V" } : Jvm.MethodName) prog_3_method_1_code (3 : Nat) (Option.none : Option Jvm.ClassFile.FieldType)) ∈ lw_all := lw_g (lw_at lw_m2 231 rfl) rfl
theorem q587 : (Jvm.Cond.methodLinkNest "TollOnVowels$Less" (7 : Nat) ({ cls := "TollOnVowels$Node", name := "<init>", desc := "(LTollOnVowels;)V" } : Jvm.MethodName) "TollOnVowels") ∈ lw_tbl := lw_at lw_m2 232 rfl
theorem q591 : (Jvm.Cond.fieldLink "TollOnVowels$Less" (13 : Nat) "TollOnVowels$Less" "its" "LTollOnVowels$Node;") ∈ lw_all := lw_g (lw_at lw_m2 236 rfl) rfl
theorem q592 : (Jvm.Cond.fieldLink "TollOnVowels$Less" (1 : Nat) "TollOnVowels$Less" "this$0" "LTollOnVowels;") ∈ lw_all := lw_g (lw_at lw_m2 237 rfl) rfl
theorem q594 : (Jvm.Cond.laysFinal "TollOnVowels$Less" "TollOnVowels$Less" "its" "LTollOnVowels$Node;") ∈ lw_all := lw_g (lw_at lw_m2 239 rfl) rfl
theorem q595 : (Jvm.Cond.soleField "TollOnVowels$Less" "its") ∈ lw_all := lw_g (lw_at lw_m3 0 rfl) rfl
theorem q596 : (Jvm.Cond.laysFinal "TollOnVowels$Less" "TollOnVowels$Less" "this$0" "LTollOnVowels;") ∈ lw_all := lw_g (lw_at lw_m3 1 rfl) rfl
theorem q597 : (Jvm.Cond.soleField "TollOnVowels$Less" "this$0") ∈ lw_all := lw_g (lw_at lw_m3 2 rfl) rfl
theorem q598 : (Jvm.Cond.laysFinal "TollOnVowels$Less" "TollOnVowels$Node" "this$0" "LTollOnVowels;") ∈ lw_all := lw_g (lw_at lw_m3 3 rfl) rfl
theorem q600 : (Jvm.Cond.superclass "TollOnVowels$Less" "TollOnVowels$Node") ∈ lw_all := lw_g (lw_at lw_m3 5 rfl) rfl
theorem q698 : (Jvm.Cond.instanceMethod ({ cls := "TollOnVowels$Less", name := "value", desc := "()I" } : Jvm.MethodName)) ∈ lw_all := lw_g (lw_at lw_m3 103 rfl) rfl
theorem q699 : (Jvm.Cond.code ({ cls := "TollOnVowels$Less", name := "value", desc := "()I" } : Jvm.MethodName) prog_3_method_2_code (1 : Nat) (Option.some Jvm.ClassFile.FieldType.int)) ∈ lw_all := lw_g (lw_at lw_m3 104 rfl) rfl
theorem q700 : (Jvm.Cond.methodLink "TollOnVowels$Less" (17 : Nat) ({ cls := "TollOnVowels$Node", name := "value", desc := "()I" } : Jvm.MethodName)) ∈ lw_all := lw_g (lw_at lw_m3 105 rfl) rfl
theorem q705 : (Jvm.Cond.selects "TollOnVowels$Less" ({ cls := "TollOnVowels$Node", name := "value", desc := "()I" } : Jvm.MethodName) ({ cls := "TollOnVowels$Less", name := "value", desc := "()I" } : Jvm.MethodName)) ∈ lw_all := lw_g (lw_at lw_m3 110 rfl) rfl
theorem q1698 : (Jvm.Cond.castable "TollOnVowels$Less" "java/lang/Object") ∈ lw_tbl := lw_at lw_m7 143 rfl
theorem in_X5 : ∀ w ∈ wsX50, w ∈ lw_all := lw_in wsX50 [598, 594, 596] (by decide +kernel) (by decide +kernel)

def RX6 : String := "TollOnVowels$Number"
def TX6 : u_T := fun k => match k with
  | 0 => ("TollOnVowels$Node", "this$0", "LTollOnVowels;", true)
  | 1 => ("TollOnVowels$Number", "v", "I", true)
  | _ => ("TollOnVowels$Number", "this$0", "LTollOnVowels;", true)
def tyX6 : Nat → FieldType := fun k => match k with
  | 0 => .object "TollOnVowels"
  | 1 => .int
  | _ => .object "TollOnVowels"
abbrev wsX60 : List Cond := u_ws RX6 TX6 3
-- two fields of one name: no nmX6
theorem tyX6_ok : ∀ k, k < 3 → parseFieldDescriptor (TX6 k).2.2.1 = some (tyX6 k) := by decide +kernel
abbrev cX6_init : ByteArray := prog_5_method_1_code
def yX6_init : MethodName := ⟨RX6, "<init>", "(LTollOnVowels;I)V"⟩
abbrev cX6_value : ByteArray := prog_5_method_2_code
def yX6_value : MethodName := ⟨RX6, "value", "()I"⟩
theorem q128 : (Jvm.Cond.initialized "TollOnVowels$Number") ∈ lw_all := lw_g (lw_at lw_m1 13 rfl) rfl
theorem q602 : (Jvm.Cond.instantiable "TollOnVowels$Number" (3 : Nat)) ∈ lw_all := lw_g (lw_at lw_m3 7 rfl) rfl
theorem q604 : (Jvm.Cond.instanceMethod ({ cls := "TollOnVowels$Number", name := "<init>", desc := "(LTollOnVowels;I)V" } : Jvm.MethodName)) ∈ lw_all := lw_g (lw_at lw_m3 9 rfl) rfl
theorem q605 : (Jvm.Cond.code ({ cls := "TollOnVowels$Number", name := "<init>", desc := "(LTollOnVowels;I)V" } : Jvm.MethodName) prog_5_method_1_code (3 : Nat) (Option.none : Option Jvm.ClassFile.FieldType)) ∈ lw_all := lw_g (lw_at lw_m3 10 rfl) rfl
theorem q606 : (Jvm.Cond.methodLinkNest "TollOnVowels$Number" (7 : Nat) ({ cls := "TollOnVowels$Node", name := "<init>", desc := "(LTollOnVowels;)V" } : Jvm.MethodName) "TollOnVowels") ∈ lw_tbl := lw_at lw_m3 11 rfl
theorem q607 : (Jvm.Cond.fieldLink "TollOnVowels$Number" (13 : Nat) "TollOnVowels$Number" "v" "I") ∈ lw_all := lw_g (lw_at lw_m3 12 rfl) rfl
theorem q608 : (Jvm.Cond.fieldLink "TollOnVowels$Number" (1 : Nat) "TollOnVowels$Number" "this$0" "LTollOnVowels;") ∈ lw_all := lw_g (lw_at lw_m3 13 rfl) rfl
theorem q609 : (Jvm.Cond.laysFinal "TollOnVowels$Number" "TollOnVowels$Number" "v" "I") ∈ lw_all := lw_g (lw_at lw_m3 14 rfl) rfl
theorem q610 : (Jvm.Cond.soleField "TollOnVowels$Number" "v") ∈ lw_all := lw_g (lw_at lw_m3 15 rfl) rfl
theorem q611 : (Jvm.Cond.laysFinal "TollOnVowels$Number" "TollOnVowels$Number" "this$0" "LTollOnVowels;") ∈ lw_all := lw_g (lw_at lw_m3 16 rfl) rfl
theorem q612 : (Jvm.Cond.soleField "TollOnVowels$Number" "this$0") ∈ lw_all := lw_g (lw_at lw_m3 17 rfl) rfl
theorem q613 : (Jvm.Cond.laysFinal "TollOnVowels$Number" "TollOnVowels$Node" "this$0" "LTollOnVowels;") ∈ lw_all := lw_g (lw_at lw_m3 18 rfl) rfl
theorem q614 : (Jvm.Cond.superclass "TollOnVowels$Number" "TollOnVowels$Node") ∈ lw_all := lw_g (lw_at lw_m3 19 rfl) rfl
theorem q701 : (Jvm.Cond.instanceMethod ({ cls := "TollOnVowels$Number", name := "value", desc := "()I" } : Jvm.MethodName)) ∈ lw_all := lw_g (lw_at lw_m3 106 rfl) rfl
theorem q702 : (Jvm.Cond.code ({ cls := "TollOnVowels$Number", name := "value", desc := "()I" } : Jvm.MethodName) prog_5_method_2_code (1 : Nat) (Option.some Jvm.ClassFile.FieldType.int)) ∈ lw_all := lw_g (lw_at lw_m3 107 rfl) rfl
theorem q706 : (Jvm.Cond.selects "TollOnVowels$Number" ({ cls := "TollOnVowels$Node", name := "value", desc := "()I" } : Jvm.MethodName) ({ cls := "TollOnVowels$Number", name := "value", desc := "()I" } : Jvm.MethodName)) ∈ lw_all := lw_g (lw_at lw_m3 111 rfl) rfl
theorem q1699 : (Jvm.Cond.castable "TollOnVowels$Number" "java/lang/Object") ∈ lw_tbl := lw_at lw_m7 144 rfl
theorem in_X6 : ∀ w ∈ wsX60, w ∈ lw_all := lw_in wsX60 [613, 609, 611] (by decide +kernel) (by decide +kernel)

def RX7 : String := "TollOnVowels$Sign"
def TX7 : u_T := fun k => match k with
  | 0 => ("TollOnVowels$Node", "this$0", "LTollOnVowels;", true)
  | 1 => ("TollOnVowels$Sign", "sign", "I", true)
  | _ => ("TollOnVowels$Sign", "this$0", "LTollOnVowels;", true)
def tyX7 : Nat → FieldType := fun k => match k with
  | 0 => .object "TollOnVowels"
  | 1 => .int
  | _ => .object "TollOnVowels"
abbrev wsX70 : List Cond := u_ws RX7 TX7 3
-- two fields of one name: no nmX7
theorem tyX7_ok : ∀ k, k < 3 → parseFieldDescriptor (TX7 k).2.2.1 = some (tyX7 k) := by decide +kernel
abbrev cX7_init : ByteArray := prog_7_method_1_code
def yX7_init : MethodName := ⟨RX7, "<init>", "(LTollOnVowels;I)V"⟩
abbrev cX7_value : ByteArray := prog_7_method_2_code
def yX7_value : MethodName := ⟨RX7, "value", "()I"⟩
theorem q129 : (Jvm.Cond.initialized "TollOnVowels$Sign") ∈ lw_all := lw_g (lw_at lw_m1 14 rfl) rfl
theorem q208 : (Jvm.Cond.fieldLinkNest "TollOnVowels$Sign" (17 : Nat) "TollOnVowels" "askedVowel" "I" "TollOnVowels") ∈ lw_tbl := lw_at lw_m1 93 rfl
theorem q210 : (Jvm.Cond.fieldLinkNest "TollOnVowels$Sign" (22 : Nat) "TollOnVowels" "askedStation" "I" "TollOnVowels") ∈ lw_tbl := lw_at lw_m1 95 rfl
theorem q212 : (Jvm.Cond.fieldLinkNest "TollOnVowels$Sign" (25 : Nat) "TollOnVowels" "askedHour" "I" "TollOnVowels") ∈ lw_tbl := lw_at lw_m1 97 rfl
theorem q214 : (Jvm.Cond.fieldLinkNest "TollOnVowels$Sign" (28 : Nat) "TollOnVowels" "askedLong" "I" "TollOnVowels") ∈ lw_tbl := lw_at lw_m1 99 rfl
theorem q216 : (Jvm.Cond.fieldLinkNest "TollOnVowels$Sign" (31 : Nat) "TollOnVowels" "askedPlace" "I" "TollOnVowels") ∈ lw_tbl := lw_at lw_m1 101 rfl
theorem q218 : (Jvm.Cond.fieldLinkNest "TollOnVowels$Sign" (34 : Nat) "TollOnVowels" "askedAhead" "I" "TollOnVowels") ∈ lw_tbl := lw_at lw_m1 103 rfl
theorem q220 : (Jvm.Cond.fieldLinkNest "TollOnVowels$Sign" (37 : Nat) "TollOnVowels" "askedDouble" "I" "TollOnVowels") ∈ lw_tbl := lw_at lw_m1 105 rfl
theorem q617 : (Jvm.Cond.instantiable "TollOnVowels$Sign" (3 : Nat)) ∈ lw_all := lw_g (lw_at lw_m3 22 rfl) rfl
theorem q619 : (Jvm.Cond.instanceMethod ({ cls := "TollOnVowels$Sign", name := "<init>", desc := "(LTollOnVowels;I)V" } : Jvm.MethodName)) ∈ lw_all := lw_g (lw_at lw_m3 24 rfl) rfl
theorem q620 : (Jvm.Cond.code ({ cls := "TollOnVowels$Sign", name := "<init>", desc := "(LTollOnVowels;I)V" } : Jvm.MethodName) prog_7_method_1_code (3 : Nat) (Option.none : Option Jvm.ClassFile.FieldType)) ∈ lw_all := lw_g (lw_at lw_m3 25 rfl) rfl
theorem q621 : (Jvm.Cond.methodLinkNest "TollOnVowels$Sign" (7 : Nat) ({ cls := "TollOnVowels$Node", name := "<init>", desc := "(LTollOnVowels;)V" } : Jvm.MethodName) "TollOnVowels") ∈ lw_tbl := lw_at lw_m3 26 rfl
theorem q622 : (Jvm.Cond.fieldLink "TollOnVowels$Sign" (13 : Nat) "TollOnVowels$Sign" "sign" "I") ∈ lw_all := lw_g (lw_at lw_m3 27 rfl) rfl
theorem q623 : (Jvm.Cond.fieldLink "TollOnVowels$Sign" (1 : Nat) "TollOnVowels$Sign" "this$0" "LTollOnVowels;") ∈ lw_all := lw_g (lw_at lw_m3 28 rfl) rfl
theorem q624 : (Jvm.Cond.laysFinal "TollOnVowels$Sign" "TollOnVowels$Sign" "sign" "I") ∈ lw_all := lw_g (lw_at lw_m3 29 rfl) rfl
theorem q625 : (Jvm.Cond.soleField "TollOnVowels$Sign" "sign") ∈ lw_all := lw_g (lw_at lw_m3 30 rfl) rfl
theorem q626 : (Jvm.Cond.laysFinal "TollOnVowels$Sign" "TollOnVowels$Sign" "this$0" "LTollOnVowels;") ∈ lw_all := lw_g (lw_at lw_m3 31 rfl) rfl
theorem q627 : (Jvm.Cond.soleField "TollOnVowels$Sign" "this$0") ∈ lw_all := lw_g (lw_at lw_m3 32 rfl) rfl
theorem q628 : (Jvm.Cond.laysFinal "TollOnVowels$Sign" "TollOnVowels$Node" "this$0" "LTollOnVowels;") ∈ lw_all := lw_g (lw_at lw_m3 33 rfl) rfl
theorem q629 : (Jvm.Cond.superclass "TollOnVowels$Sign" "TollOnVowels$Node") ∈ lw_all := lw_g (lw_at lw_m3 34 rfl) rfl
theorem q703 : (Jvm.Cond.instanceMethod ({ cls := "TollOnVowels$Sign", name := "value", desc := "()I" } : Jvm.MethodName)) ∈ lw_all := lw_g (lw_at lw_m3 108 rfl) rfl
theorem q704 : (Jvm.Cond.code ({ cls := "TollOnVowels$Sign", name := "value", desc := "()I" } : Jvm.MethodName) prog_7_method_2_code (1 : Nat) (Option.some Jvm.ClassFile.FieldType.int)) ∈ lw_all := lw_g (lw_at lw_m3 109 rfl) rfl
theorem q707 : (Jvm.Cond.selects "TollOnVowels$Sign" ({ cls := "TollOnVowels$Node", name := "value", desc := "()I" } : Jvm.MethodName) ({ cls := "TollOnVowels$Sign", name := "value", desc := "()I" } : Jvm.MethodName)) ∈ lw_all := lw_g (lw_at lw_m3 112 rfl) rfl
theorem q1700 : (Jvm.Cond.castable "TollOnVowels$Sign" "java/lang/Object") ∈ lw_tbl := lw_at lw_m7 145 rfl
theorem in_X7 : ∀ w ∈ wsX70, w ∈ lw_all := lw_in wsX70 [628, 624, 626] (by decide +kernel) (by decide +kernel)

def RX8 : String := "TollOnVowels$Act"
def TX8 : u_T := fun k => match k with
  | 0 => ("TollOnVowels$Node", "this$0", "LTollOnVowels;", true)
  | 1 => ("TollOnVowels$Act", "sign", "C", true)
  | 2 => ("TollOnVowels$Act", "left", "LTollOnVowels$Node;", true)
  | 3 => ("TollOnVowels$Act", "right", "LTollOnVowels$Node;", true)
  | _ => ("TollOnVowels$Act", "this$0", "LTollOnVowels;", true)
def tyX8 : Nat → FieldType := fun k => match k with
  | 0 => .object "TollOnVowels"
  | 1 => .char
  | 2 => .object "TollOnVowels$Node"
  | 3 => .object "TollOnVowels$Node"
  | _ => .object "TollOnVowels"
abbrev wsX80 : List Cond := u_ws RX8 TX8 5
-- two fields of one name: no nmX8
theorem tyX8_ok : ∀ k, k < 5 → parseFieldDescriptor (TX8 k).2.2.1 = some (tyX8 k) := by decide +kernel
abbrev cX8_init : ByteArray := prog_2_method_1_code
def yX8_init : MethodName := ⟨RX8, "<init>", "(LTollOnVowels;CLTollOnVowels$Node;LTollOnVowels$Node;)V"⟩
abbrev cX8_value : ByteArray := prog_2_method_2_code
def yX8_value : MethodName := ⟨RX8, "value", "()I"⟩
theorem q130 : (Jvm.Cond.initialized "TollOnVowels$Act") ∈ lw_all := lw_g (lw_at lw_m1 15 rfl) rfl
theorem q637 : (Jvm.Cond.instantiable "TollOnVowels$Act" (5 : Nat)) ∈ lw_all := lw_g (lw_at lw_m3 42 rfl) rfl
theorem q639 : (Jvm.Cond.instanceMethod ({ cls := "TollOnVowels$Act", name := "<init>", desc := "(LTollOnVowels;CLTollOnVowels$Node;LTollOnVowels$Node;)V" } : Jvm.MethodName)) ∈ lw_all := lw_g (lw_at lw_m3 44 rfl) rfl
theorem q640 : (Jvm.Cond.code ({ cls := "TollOnVowels$Act", name := "<init>", desc := "(LTollOnVowels;CLTollOnVowels$Node;LTollOnVowels$Node;)V" } : Jvm.MethodName) prog_2_method_1_code (5 : Nat) (Option.none : Option Jvm.ClassFile.FieldType)) ∈ lw_all := lw_g (lw_at lw_m3 45 rfl) rfl
theorem q641 : (Jvm.Cond.methodLinkNest "TollOnVowels$Act" (7 : Nat) ({ cls := "TollOnVowels$Node", name := "<init>", desc := "(LTollOnVowels;)V" } : Jvm.MethodName) "TollOnVowels") ∈ lw_tbl := lw_at lw_m3 46 rfl
theorem q642 : (Jvm.Cond.fieldLink "TollOnVowels$Act" (13 : Nat) "TollOnVowels$Act" "sign" "C") ∈ lw_all := lw_g (lw_at lw_m3 47 rfl) rfl
theorem q643 : (Jvm.Cond.fieldLink "TollOnVowels$Act" (17 : Nat) "TollOnVowels$Act" "left" "LTollOnVowels$Node;") ∈ lw_all := lw_g (lw_at lw_m3 48 rfl) rfl
theorem q644 : (Jvm.Cond.fieldLink "TollOnVowels$Act" (21 : Nat) "TollOnVowels$Act" "right" "LTollOnVowels$Node;") ∈ lw_all := lw_g (lw_at lw_m3 49 rfl) rfl
theorem q645 : (Jvm.Cond.fieldLink "TollOnVowels$Act" (1 : Nat) "TollOnVowels$Act" "this$0" "LTollOnVowels;") ∈ lw_all := lw_g (lw_at lw_m3 50 rfl) rfl
theorem q646 : (Jvm.Cond.laysFinal "TollOnVowels$Act" "TollOnVowels$Act" "sign" "C") ∈ lw_all := lw_g (lw_at lw_m3 51 rfl) rfl
theorem q647 : (Jvm.Cond.soleField "TollOnVowels$Act" "sign") ∈ lw_all := lw_g (lw_at lw_m3 52 rfl) rfl
theorem q648 : (Jvm.Cond.laysFinal "TollOnVowels$Act" "TollOnVowels$Act" "left" "LTollOnVowels$Node;") ∈ lw_all := lw_g (lw_at lw_m3 53 rfl) rfl
theorem q649 : (Jvm.Cond.soleField "TollOnVowels$Act" "left") ∈ lw_all := lw_g (lw_at lw_m3 54 rfl) rfl
theorem q650 : (Jvm.Cond.laysFinal "TollOnVowels$Act" "TollOnVowels$Act" "right" "LTollOnVowels$Node;") ∈ lw_all := lw_g (lw_at lw_m3 55 rfl) rfl
theorem q651 : (Jvm.Cond.soleField "TollOnVowels$Act" "right") ∈ lw_all := lw_g (lw_at lw_m3 56 rfl) rfl
theorem q652 : (Jvm.Cond.laysFinal "TollOnVowels$Act" "TollOnVowels$Act" "this$0" "LTollOnVowels;") ∈ lw_all := lw_g (lw_at lw_m3 57 rfl) rfl
theorem q653 : (Jvm.Cond.soleField "TollOnVowels$Act" "this$0") ∈ lw_all := lw_g (lw_at lw_m3 58 rfl) rfl
theorem q654 : (Jvm.Cond.laysFinal "TollOnVowels$Act" "TollOnVowels$Node" "this$0" "LTollOnVowels;") ∈ lw_all := lw_g (lw_at lw_m3 59 rfl) rfl
theorem q655 : (Jvm.Cond.superclass "TollOnVowels$Act" "TollOnVowels$Node") ∈ lw_all := lw_g (lw_at lw_m3 60 rfl) rfl
theorem q694 : (Jvm.Cond.selects "TollOnVowels$Act" ({ cls := "TollOnVowels$Node", name := "value", desc := "()I" } : Jvm.MethodName) ({ cls := "TollOnVowels$Act", name := "value", desc := "()I" } : Jvm.MethodName)) ∈ lw_all := lw_g (lw_at lw_m3 99 rfl) rfl
theorem q695 : (Jvm.Cond.instanceMethod ({ cls := "TollOnVowels$Act", name := "value", desc := "()I" } : Jvm.MethodName)) ∈ lw_all := lw_g (lw_at lw_m3 100 rfl) rfl
theorem q696 : (Jvm.Cond.code ({ cls := "TollOnVowels$Act", name := "value", desc := "()I" } : Jvm.MethodName) prog_2_method_2_code (3 : Nat) (Option.some Jvm.ClassFile.FieldType.int)) ∈ lw_all := lw_g (lw_at lw_m3 101 rfl) rfl
theorem q697 : (Jvm.Cond.methodLink "TollOnVowels$Act" (24 : Nat) ({ cls := "TollOnVowels$Node", name := "value", desc := "()I" } : Jvm.MethodName)) ∈ lw_all := lw_g (lw_at lw_m3 102 rfl) rfl
theorem q1701 : (Jvm.Cond.castable "TollOnVowels$Act" "java/lang/Object") ∈ lw_tbl := lw_at lw_m7 146 rfl
theorem in_X8 : ∀ w ∈ wsX80, w ∈ lw_all := lw_in wsX80 [654, 646, 648, 650, 652] (by decide +kernel) (by decide +kernel)

def RX0 : String := "TollOnVowelsLaw"
abbrev cX0_word : ByteArray := method_3_code
def yX0_word : MethodName := ⟨RX0, "word", "(LTollOnVowels;II[J)I"⟩
abbrev cX0_traveller : ByteArray := method_4_code
def yX0_traveller : MethodName := ⟨RX0, "traveller", "(LTollOnVowels;II[J)I"⟩
abbrev cX0_errand : ByteArray := method_5_code
def yX0_errand : MethodName := ⟨RX0, "errand", "(LTollOnVowels;II[J)I"⟩
abbrev cX0_book : ByteArray := method_6_code
def yX0_book : MethodName := ⟨RX0, "book", "(LTollOnVowels;II[J)I"⟩
abbrev cX0_row : ByteArray := method_7_code
def yX0_row : MethodName := ⟨RX0, "row", "(LTollOnVowels;I[J)I"⟩
theorem q115 : (Jvm.Cond.initialized "TollOnVowelsLaw") ∈ lw_all := lw_g (lw_at lw_m1 0 rfl) rfl
theorem q136 : (Jvm.Cond.classLink "TollOnVowelsLaw" (8 : Nat) "TollOnVowels") ∈ lw_all := lw_g (lw_at lw_m1 21 rfl) rfl
theorem q138 : (Jvm.Cond.methodLink "TollOnVowelsLaw" (28 : Nat) ({ cls := "TollOnVowels", name := "<init>", desc := "()V" } : Jvm.MethodName)) ∈ lw_all := lw_g (lw_at lw_m1 23 rfl) rfl
theorem q390 : (Jvm.Cond.methodLink "TollOnVowelsLaw" (32 : Nat) ({ cls := "TollOnVowels", name := "sign", desc := "(I)I" } : Jvm.MethodName)) ∈ lw_all := lw_g (lw_at lw_m2 35 rfl) rfl
theorem q394 : (Jvm.Cond.methodLink "TollOnVowelsLaw" (37 : Nat) ({ cls := "TollOnVowels", name := "end", desc := "(I)Z" } : Jvm.MethodName)) ∈ lw_all := lw_g (lw_at lw_m2 39 rfl) rfl
theorem q401 : (Jvm.Cond.methodLink "TollOnVowelsLaw" (46 : Nat) ({ cls := "TollOnVowels", name := "words", desc := "()I" } : Jvm.MethodName)) ∈ lw_all := lw_g (lw_at lw_m2 46 rfl) rfl
theorem q530 : (Jvm.Cond.methodLink "TollOnVowelsLaw" (51 : Nat) ({ cls := "TollOnVowels", name := "travellers", desc := "()I" } : Jvm.MethodName)) ∈ lw_all := lw_g (lw_at lw_m2 175 rfl) rfl
theorem q552 : (Jvm.Cond.methodLink "TollOnVowelsLaw" (55 : Nat) ({ cls := "TollOnVowels", name := "errands", desc := "()I" } : Jvm.MethodName)) ∈ lw_all := lw_g (lw_at lw_m2 197 rfl) rfl
theorem q560 : (Jvm.Cond.methodLink "TollOnVowelsLaw" (42 : Nat) ({ cls := "TollOnVowels", name := "road", desc := "(I)I" } : Jvm.MethodName)) ∈ lw_all := lw_g (lw_at lw_m2 205 rfl) rfl
theorem q566 : (Jvm.Cond.methodLink "TollOnVowelsLaw" (59 : Nat) ({ cls := "TollOnVowels", name := "rule", desc := "()I" } : Jvm.MethodName)) ∈ lw_all := lw_g (lw_at lw_m2 211 rfl) rfl
theorem q656 : (Jvm.Cond.methodLink "TollOnVowelsLaw" (81 : Nat) ({ cls := "TollOnVowels", name := "sheet", desc := "(IIII)I" } : Jvm.MethodName)) ∈ lw_all := lw_g (lw_at lw_m3 61 rfl) rfl
theorem q661 : (Jvm.Cond.methodLink "TollOnVowelsLaw" (111 : Nat) ({ cls := "TollOnVowels", name := "undo", desc := "()I" } : Jvm.MethodName)) ∈ lw_all := lw_g (lw_at lw_m3 66 rfl) rfl
theorem q670 : (Jvm.Cond.methodLink "TollOnVowelsLaw" (86 : Nat) ({ cls := "TollOnVowels", name := "toll", desc := "(II)I" } : Jvm.MethodName)) ∈ lw_all := lw_g (lw_at lw_m3 75 rfl) rfl
theorem q712 : (Jvm.Cond.methodLink "TollOnVowelsLaw" (90 : Nat) ({ cls := "TollOnVowels", name := "walk", desc := "(II)I" } : Jvm.MethodName)) ∈ lw_all := lw_g (lw_at lw_m3 117 rfl) rfl
theorem q732 : (Jvm.Cond.methodLink "TollOnVowelsLaw" (94 : Nat) ({ cls := "TollOnVowels", name := "pause", desc := "(I)I" } : Jvm.MethodName)) ∈ lw_all := lw_g (lw_at lw_m3 137 rfl) rfl
theorem q737 : (Jvm.Cond.methodLink "TollOnVowelsLaw" (98 : Nat) ({ cls := "TollOnVowels", name := "say", desc := "(II)I" } : Jvm.MethodName)) ∈ lw_all := lw_g (lw_at lw_m3 142 rfl) rfl
theorem q764 : (Jvm.Cond.methodLink "TollOnVowelsLaw" (102 : Nat) ({ cls := "TollOnVowels", name := "alms", desc := "(III)I" } : Jvm.MethodName)) ∈ lw_all := lw_g (lw_at lw_m3 169 rfl) rfl
theorem q773 : (Jvm.Cond.methodLink "TollOnVowelsLaw" (107 : Nat) ({ cls := "TollOnVowels", name := "journey", desc := "()I" } : Jvm.MethodName)) ∈ lw_all := lw_g (lw_at lw_m3 178 rfl) rfl
theorem q812 : (Jvm.Cond.methodLink "TollOnVowelsLaw" (115 : Nat) ({ cls := "TollOnVowels", name := "cheapest", desc := "(II)I" } : Jvm.MethodName)) ∈ lw_all := lw_g (lw_at lw_m3 217 rfl) rfl
theorem q817 : (Jvm.Cond.methodLink "TollOnVowelsLaw" (119 : Nat) ({ cls := "TollOnVowels", name := "sentence", desc := "(I)I" } : Jvm.MethodName)) ∈ lw_all := lw_g (lw_at lw_m3 222 rfl) rfl
theorem q829 : (Jvm.Cond.methodLink "TollOnVowelsLaw" (123 : Nat) ({ cls := "TollOnVowels", name := "when", desc := "(II)I" } : Jvm.MethodName)) ∈ lw_all := lw_g (lw_at lw_m3 234 rfl) rfl
theorem q833 : (Jvm.Cond.methodLink "TollOnVowelsLaw" (127 : Nat) ({ cls := "TollOnVowels", name := "shortest", desc := "(III)I" } : Jvm.MethodName)) ∈ lw_all := lw_g (lw_at lw_m3 238 rfl) rfl
theorem q837 : (Jvm.Cond.methodLink "TollOnVowelsLaw" (131 : Nat) ({ cls := "TollOnVowels", name := "differ", desc := "(II)I" } : Jvm.MethodName)) ∈ lw_all := lw_g (lw_at lw_m4 2 rfl) rfl
theorem q849 : (Jvm.Cond.methodLink "TollOnVowelsLaw" (135 : Nat) ({ cls := "TollOnVowels", name := "near", desc := "(I)I" } : Jvm.MethodName)) ∈ lw_all := lw_g (lw_at lw_m4 14 rfl) rfl
theorem q853 : (Jvm.Cond.methodLink "TollOnVowelsLaw" (139 : Nat) ({ cls := "TollOnVowels", name := "heard", desc := "(III)I" } : Jvm.MethodName)) ∈ lw_all := lw_g (lw_at lw_m4 18 rfl) rfl
theorem q862 : (Jvm.Cond.methodLink "TollOnVowelsLaw" (143 : Nat) ({ cls := "TollOnVowels", name := "code", desc := "(I)I" } : Jvm.MethodName)) ∈ lw_all := lw_g (lw_at lw_m4 27 rfl) rfl
theorem q880 : (Jvm.Cond.methodLink "TollOnVowelsLaw" (147 : Nat) ({ cls := "TollOnVowels", name := "trip", desc := "(II)I" } : Jvm.MethodName)) ∈ lw_all := lw_g (lw_at lw_m4 45 rfl) rfl
theorem q908 : (Jvm.Cond.methodLink "TollOnVowelsLaw" (151 : Nat) ({ cls := "TollOnVowels", name := "haste", desc := "(I)I" } : Jvm.MethodName)) ∈ lw_all := lw_g (lw_at lw_m4 73 rfl) rfl
theorem q912 : (Jvm.Cond.methodLink "TollOnVowelsLaw" (155 : Nat) ({ cls := "TollOnVowels", name := "best", desc := "(I)I" } : Jvm.MethodName)) ∈ lw_all := lw_g (lw_at lw_m4 77 rfl) rfl
theorem q924 : (Jvm.Cond.methodLink "TollOnVowelsLaw" (159 : Nat) ({ cls := "TollOnVowels", name := "takes", desc := "(II)I" } : Jvm.MethodName)) ∈ lw_all := lw_g (lw_at lw_m4 89 rfl) rfl
theorem q932 : (Jvm.Cond.methodLink "TollOnVowelsLaw" (163 : Nat) ({ cls := "TollOnVowels", name := "greed", desc := "(I)I" } : Jvm.MethodName)) ∈ lw_all := lw_g (lw_at lw_m4 97 rfl) rfl
theorem q936 : (Jvm.Cond.methodLink "TollOnVowelsLaw" (167 : Nat) ({ cls := "TollOnVowels", name := "law", desc := "(I)I" } : Jvm.MethodName)) ∈ lw_all := lw_g (lw_at lw_m4 101 rfl) rfl
theorem q940 : (Jvm.Cond.methodLink "TollOnVowelsLaw" (171 : Nat) ({ cls := "TollOnVowels", name := "said", desc := "()I" } : Jvm.MethodName)) ∈ lw_all := lw_g (lw_at lw_m4 105 rfl) rfl
theorem q960 : (Jvm.Cond.methodLink "TollOnVowelsLaw" (175 : Nat) ({ cls := "TollOnVowels", name := "ask", desc := "()I" } : Jvm.MethodName)) ∈ lw_all := lw_g (lw_at lw_m4 125 rfl) rfl
theorem q968 : (Jvm.Cond.methodLink "TollOnVowelsLaw" (179 : Nat) ({ cls := "TollOnVowels", name := "years", desc := "(II)I" } : Jvm.MethodName)) ∈ lw_all := lw_g (lw_at lw_m4 133 rfl) rfl
theorem q978 : (Jvm.Cond.methodLink "TollOnVowelsLaw" (183 : Nat) ({ cls := "TollOnVowels", name := "keep", desc := "(I)Z" } : Jvm.MethodName)) ∈ lw_all := lw_g (lw_at lw_m4 143 rfl) rfl
theorem q982 : (Jvm.Cond.methodLink "TollOnVowelsLaw" (187 : Nat) ({ cls := "TollOnVowels", name := "again", desc := "(I)Z" } : Jvm.MethodName)) ∈ lw_all := lw_g (lw_at lw_m4 147 rfl) rfl
theorem q986 : (Jvm.Cond.methodLink "TollOnVowelsLaw" (191 : Nat) ({ cls := "TollOnVowels", name := "count", desc := "(I)I" } : Jvm.MethodName)) ∈ lw_all := lw_g (lw_at lw_m4 151 rfl) rfl
theorem q1002 : (Jvm.Cond.methodLink "TollOnVowelsLaw" (63 : Nat) ({ cls := "TollOnVowelsLaw", name := "word", desc := "(LTollOnVowels;II[J)I" } : Jvm.MethodName)) ∈ lw_all := lw_g (lw_at lw_m4 167 rfl) rfl
theorem q1003 : (Jvm.Cond.static ({ cls := "TollOnVowelsLaw", name := "word", desc := "(LTollOnVowels;II[J)I" } : Jvm.MethodName)) ∈ lw_all := lw_g (lw_at lw_m4 168 rfl) rfl
theorem q1004 : (Jvm.Cond.codeWith ({ cls := "TollOnVowelsLaw", name := "word", desc := "(LTollOnVowels;II[J)I" } : Jvm.MethodName) method_3_code (5 : Nat) (Option.some Jvm.ClassFile.FieldType.int) [((0 : Nat), (10 : Nat), (13 : Nat), (13 : Nat))]) ∈ lw_all := lw_g (lw_at lw_m4 169 rfl) rfl
theorem q1005 : (Jvm.Cond.classLink "TollOnVowelsLaw" (13 : Nat) "java/util/NoSuchElementException") ∈ lw_all := lw_g (lw_at lw_m4 170 rfl) rfl
theorem q1006 : (Jvm.Cond.methodLink "TollOnVowelsLaw" (7 : Nat) ({ cls := "TollOnVowels", name := "word", desc := "(II)I" } : Jvm.MethodName)) ∈ lw_all := lw_g (lw_at lw_m4 171 rfl) rfl
theorem q1072 : (Jvm.Cond.methodLink "TollOnVowelsLaw" (72 : Nat) ({ cls := "TollOnVowelsLaw", name := "traveller", desc := "(LTollOnVowels;II[J)I" } : Jvm.MethodName)) ∈ lw_all := lw_g (lw_at lw_m4 237 rfl) rfl
theorem q1073 : (Jvm.Cond.static ({ cls := "TollOnVowelsLaw", name := "traveller", desc := "(LTollOnVowels;II[J)I" } : Jvm.MethodName)) ∈ lw_all := lw_g (lw_at lw_m4 238 rfl) rfl
theorem q1074 : (Jvm.Cond.codeWith ({ cls := "TollOnVowelsLaw", name := "traveller", desc := "(LTollOnVowels;II[J)I" } : Jvm.MethodName) method_4_code (5 : Nat) (Option.some Jvm.ClassFile.FieldType.int) [((0 : Nat), (10 : Nat), (13 : Nat), (13 : Nat))]) ∈ lw_all := lw_g (lw_at lw_m4 239 rfl) rfl
theorem q1075 : (Jvm.Cond.methodLink "TollOnVowelsLaw" (15 : Nat) ({ cls := "TollOnVowels", name := "traveller", desc := "(II)I" } : Jvm.MethodName)) ∈ lw_all := lw_g (lw_at lw_m5 0 rfl) rfl
theorem q1079 : (Jvm.Cond.methodLink "TollOnVowelsLaw" (75 : Nat) ({ cls := "TollOnVowelsLaw", name := "errand", desc := "(LTollOnVowels;II[J)I" } : Jvm.MethodName)) ∈ lw_all := lw_g (lw_at lw_m5 4 rfl) rfl
theorem q1080 : (Jvm.Cond.static ({ cls := "TollOnVowelsLaw", name := "errand", desc := "(LTollOnVowels;II[J)I" } : Jvm.MethodName)) ∈ lw_all := lw_g (lw_at lw_m5 5 rfl) rfl
theorem q1081 : (Jvm.Cond.codeWith ({ cls := "TollOnVowelsLaw", name := "errand", desc := "(LTollOnVowels;II[J)I" } : Jvm.MethodName) method_5_code (5 : Nat) (Option.some Jvm.ClassFile.FieldType.int) [((0 : Nat), (10 : Nat), (13 : Nat), (13 : Nat))]) ∈ lw_all := lw_g (lw_at lw_m5 6 rfl) rfl
theorem q1082 : (Jvm.Cond.methodLink "TollOnVowelsLaw" (18 : Nat) ({ cls := "TollOnVowels", name := "errand", desc := "(II)I" } : Jvm.MethodName)) ∈ lw_all := lw_g (lw_at lw_m5 7 rfl) rfl
theorem q1086 : (Jvm.Cond.methodLink "TollOnVowelsLaw" (78 : Nat) ({ cls := "TollOnVowelsLaw", name := "book", desc := "(LTollOnVowels;II[J)I" } : Jvm.MethodName)) ∈ lw_all := lw_g (lw_at lw_m5 11 rfl) rfl
theorem q1087 : (Jvm.Cond.static ({ cls := "TollOnVowelsLaw", name := "book", desc := "(LTollOnVowels;II[J)I" } : Jvm.MethodName)) ∈ lw_all := lw_g (lw_at lw_m5 12 rfl) rfl
theorem q1088 : (Jvm.Cond.codeWith ({ cls := "TollOnVowelsLaw", name := "book", desc := "(LTollOnVowels;II[J)I" } : Jvm.MethodName) method_6_code (5 : Nat) (Option.some Jvm.ClassFile.FieldType.int) [((0 : Nat), (10 : Nat), (13 : Nat), (13 : Nat))]) ∈ lw_all := lw_g (lw_at lw_m5 13 rfl) rfl
theorem q1089 : (Jvm.Cond.methodLink "TollOnVowelsLaw" (21 : Nat) ({ cls := "TollOnVowels", name := "book", desc := "(II)I" } : Jvm.MethodName)) ∈ lw_all := lw_g (lw_at lw_m5 14 rfl) rfl
theorem q1094 : (Jvm.Cond.methodLink "TollOnVowelsLaw" (195 : Nat) ({ cls := "TollOnVowelsLaw", name := "row", desc := "(LTollOnVowels;I[J)I" } : Jvm.MethodName)) ∈ lw_all := lw_g (lw_at lw_m5 19 rfl) rfl
theorem q1095 : (Jvm.Cond.static ({ cls := "TollOnVowelsLaw", name := "row", desc := "(LTollOnVowels;I[J)I" } : Jvm.MethodName)) ∈ lw_all := lw_g (lw_at lw_m5 20 rfl) rfl
theorem q1096 : (Jvm.Cond.codeWith ({ cls := "TollOnVowelsLaw", name := "row", desc := "(LTollOnVowels;I[J)I" } : Jvm.MethodName) method_7_code (4 : Nat) (Option.some Jvm.ClassFile.FieldType.int) [((0 : Nat), (8 : Nat), (11 : Nat), (13 : Nat))]) ∈ lw_all := lw_g (lw_at lw_m5 21 rfl) rfl
theorem q1097 : (Jvm.Cond.methodLink "TollOnVowelsLaw" (24 : Nat) ({ cls := "TollOnVowels", name := "row", desc := "(I)J" } : Jvm.MethodName)) ∈ lw_all := lw_g (lw_at lw_m5 22 rfl) rfl
theorem q1101 : (Jvm.Cond.classLink "TollOnVowelsLaw" (29 : Nat) "TollOnVowelsModel") ∈ lw_all := lw_g (lw_at lw_m5 26 rfl) rfl
theorem q1103 : (Jvm.Cond.methodLink "TollOnVowelsLaw" (31 : Nat) ({ cls := "TollOnVowelsModel", name := "<init>", desc := "()V" } : Jvm.MethodName)) ∈ lw_all := lw_g (lw_at lw_m5 28 rfl) rfl
theorem q1277 : (Jvm.Cond.methodLink "TollOnVowelsLaw" (69 : Nat) ({ cls := "TollOnVowelsModel", name := "thrown", desc := "()I" } : Jvm.MethodName)) ∈ lw_all := lw_g (lw_at lw_m5 202 rfl) rfl
theorem q1281 : (Jvm.Cond.methodLink "TollOnVowelsLaw" (36 : Nat) ({ cls := "TollOnVowelsModel", name := "sign", desc := "(I)I" } : Jvm.MethodName)) ∈ lw_all := lw_g (lw_at lw_m5 206 rfl) rfl
theorem q1285 : (Jvm.Cond.methodLink "TollOnVowelsLaw" (41 : Nat) ({ cls := "TollOnVowelsModel", name := "end", desc := "(I)Z" } : Jvm.MethodName)) ∈ lw_all := lw_g (lw_at lw_m5 210 rfl) rfl
theorem q1292 : (Jvm.Cond.methodLink "TollOnVowelsLaw" (45 : Nat) ({ cls := "TollOnVowelsModel", name := "road", desc := "(I)I" } : Jvm.MethodName)) ∈ lw_all := lw_g (lw_at lw_m5 217 rfl) rfl
theorem q1296 : (Jvm.Cond.methodLink "TollOnVowelsLaw" (50 : Nat) ({ cls := "TollOnVowelsModel", name := "words", desc := "()I" } : Jvm.MethodName)) ∈ lw_all := lw_g (lw_at lw_m5 221 rfl) rfl
theorem q1336 : (Jvm.Cond.methodLink "TollOnVowelsLaw" (54 : Nat) ({ cls := "TollOnVowelsModel", name := "travellers", desc := "()I" } : Jvm.MethodName)) ∈ lw_all := lw_g (lw_at lw_m6 21 rfl) rfl
theorem q1348 : (Jvm.Cond.methodLink "TollOnVowelsLaw" (58 : Nat) ({ cls := "TollOnVowelsModel", name := "errands", desc := "()I" } : Jvm.MethodName)) ∈ lw_all := lw_g (lw_at lw_m6 33 rfl) rfl
theorem q1352 : (Jvm.Cond.methodLink "TollOnVowelsLaw" (62 : Nat) ({ cls := "TollOnVowelsModel", name := "rule", desc := "()I" } : Jvm.MethodName)) ∈ lw_all := lw_g (lw_at lw_m6 37 rfl) rfl
theorem q1379 : (Jvm.Cond.methodLink "TollOnVowelsLaw" (68 : Nat) ({ cls := "TollOnVowelsModel", name := "word", desc := "(II)I" } : Jvm.MethodName)) ∈ lw_all := lw_g (lw_at lw_m6 64 rfl) rfl
theorem q1406 : (Jvm.Cond.methodLink "TollOnVowelsLaw" (74 : Nat) ({ cls := "TollOnVowelsModel", name := "traveller", desc := "(II)I" } : Jvm.MethodName)) ∈ lw_all := lw_g (lw_at lw_m6 91 rfl) rfl
theorem q1425 : (Jvm.Cond.methodLink "TollOnVowelsLaw" (77 : Nat) ({ cls := "TollOnVowelsModel", name := "errand", desc := "(II)I" } : Jvm.MethodName)) ∈ lw_all := lw_g (lw_at lw_m6 110 rfl) rfl
theorem q1429 : (Jvm.Cond.methodLink "TollOnVowelsLaw" (80 : Nat) ({ cls := "TollOnVowelsModel", name := "book", desc := "(II)I" } : Jvm.MethodName)) ∈ lw_all := lw_g (lw_at lw_m6 114 rfl) rfl
theorem q1437 : (Jvm.Cond.methodLink "TollOnVowelsLaw" (85 : Nat) ({ cls := "TollOnVowelsModel", name := "sheet", desc := "(IIII)I" } : Jvm.MethodName)) ∈ lw_all := lw_g (lw_at lw_m6 122 rfl) rfl
theorem q1443 : (Jvm.Cond.methodLink "TollOnVowelsLaw" (89 : Nat) ({ cls := "TollOnVowelsModel", name := "toll", desc := "(II)I" } : Jvm.MethodName)) ∈ lw_all := lw_g (lw_at lw_m6 128 rfl) rfl
theorem q1459 : (Jvm.Cond.methodLink "TollOnVowelsLaw" (93 : Nat) ({ cls := "TollOnVowelsModel", name := "walk", desc := "(II)I" } : Jvm.MethodName)) ∈ lw_all := lw_g (lw_at lw_m6 144 rfl) rfl
theorem q1477 : (Jvm.Cond.methodLink "TollOnVowelsLaw" (97 : Nat) ({ cls := "TollOnVowelsModel", name := "pause", desc := "(I)I" } : Jvm.MethodName)) ∈ lw_all := lw_g (lw_at lw_m6 162 rfl) rfl
theorem q1481 : (Jvm.Cond.methodLink "TollOnVowelsLaw" (101 : Nat) ({ cls := "TollOnVowelsModel", name := "say", desc := "(II)I" } : Jvm.MethodName)) ∈ lw_all := lw_g (lw_at lw_m6 166 rfl) rfl
theorem q1497 : (Jvm.Cond.methodLink "TollOnVowelsLaw" (106 : Nat) ({ cls := "TollOnVowelsModel", name := "alms", desc := "(III)I" } : Jvm.MethodName)) ∈ lw_all := lw_g (lw_at lw_m6 182 rfl) rfl
theorem q1501 : (Jvm.Cond.methodLink "TollOnVowelsLaw" (110 : Nat) ({ cls := "TollOnVowelsModel", name := "journey", desc := "()I" } : Jvm.MethodName)) ∈ lw_all := lw_g (lw_at lw_m6 186 rfl) rfl
theorem q1521 : (Jvm.Cond.methodLink "TollOnVowelsLaw" (114 : Nat) ({ cls := "TollOnVowelsModel", name := "undo", desc := "()I" } : Jvm.MethodName)) ∈ lw_all := lw_g (lw_at lw_m6 206 rfl) rfl
theorem q1525 : (Jvm.Cond.methodLink "TollOnVowelsLaw" (118 : Nat) ({ cls := "TollOnVowelsModel", name := "cheapest", desc := "(II)I" } : Jvm.MethodName)) ∈ lw_all := lw_g (lw_at lw_m6 210 rfl) rfl
theorem q1532 : (Jvm.Cond.methodLink "TollOnVowelsLaw" (122 : Nat) ({ cls := "TollOnVowelsModel", name := "sentence", desc := "(I)I" } : Jvm.MethodName)) ∈ lw_all := lw_g (lw_at lw_m6 217 rfl) rfl
theorem q1541 : (Jvm.Cond.methodLink "TollOnVowelsLaw" (126 : Nat) ({ cls := "TollOnVowelsModel", name := "when", desc := "(II)I" } : Jvm.MethodName)) ∈ lw_all := lw_g (lw_at lw_m6 226 rfl) rfl
theorem q1545 : (Jvm.Cond.methodLink "TollOnVowelsLaw" (130 : Nat) ({ cls := "TollOnVowelsModel", name := "shortest", desc := "(III)I" } : Jvm.MethodName)) ∈ lw_all := lw_g (lw_at lw_m6 230 rfl) rfl
theorem q1549 : (Jvm.Cond.methodLink "TollOnVowelsLaw" (134 : Nat) ({ cls := "TollOnVowelsModel", name := "differ", desc := "(II)I" } : Jvm.MethodName)) ∈ lw_all := lw_g (lw_at lw_m6 234 rfl) rfl
theorem q1565 : (Jvm.Cond.methodLink "TollOnVowelsLaw" (138 : Nat) ({ cls := "TollOnVowelsModel", name := "near", desc := "(I)I" } : Jvm.MethodName)) ∈ lw_all := lw_g (lw_at lw_m7 10 rfl) rfl
theorem q1573 : (Jvm.Cond.methodLink "TollOnVowelsLaw" (142 : Nat) ({ cls := "TollOnVowelsModel", name := "heard", desc := "(III)I" } : Jvm.MethodName)) ∈ lw_all := lw_g (lw_at lw_m7 18 rfl) rfl
theorem q1584 : (Jvm.Cond.methodLink "TollOnVowelsLaw" (146 : Nat) ({ cls := "TollOnVowelsModel", name := "code", desc := "(I)I" } : Jvm.MethodName)) ∈ lw_all := lw_g (lw_at lw_m7 29 rfl) rfl
theorem q1597 : (Jvm.Cond.methodLink "TollOnVowelsLaw" (150 : Nat) ({ cls := "TollOnVowelsModel", name := "trip", desc := "(II)I" } : Jvm.MethodName)) ∈ lw_all := lw_g (lw_at lw_m7 42 rfl) rfl
theorem q1617 : (Jvm.Cond.methodLink "TollOnVowelsLaw" (154 : Nat) ({ cls := "TollOnVowelsModel", name := "haste", desc := "(I)I" } : Jvm.MethodName)) ∈ lw_all := lw_g (lw_at lw_m7 62 rfl) rfl
theorem q1621 : (Jvm.Cond.methodLink "TollOnVowelsLaw" (158 : Nat) ({ cls := "TollOnVowelsModel", name := "best", desc := "(I)I" } : Jvm.MethodName)) ∈ lw_all := lw_g (lw_at lw_m7 66 rfl) rfl
theorem q1625 : (Jvm.Cond.methodLink "TollOnVowelsLaw" (162 : Nat) ({ cls := "TollOnVowelsModel", name := "takes", desc := "(II)I" } : Jvm.MethodName)) ∈ lw_all := lw_g (lw_at lw_m7 70 rfl) rfl
theorem q1633 : (Jvm.Cond.methodLink "TollOnVowelsLaw" (166 : Nat) ({ cls := "TollOnVowelsModel", name := "greed", desc := "(I)I" } : Jvm.MethodName)) ∈ lw_all := lw_g (lw_at lw_m7 78 rfl) rfl
theorem q1637 : (Jvm.Cond.methodLink "TollOnVowelsLaw" (170 : Nat) ({ cls := "TollOnVowelsModel", name := "law", desc := "(I)I" } : Jvm.MethodName)) ∈ lw_all := lw_g (lw_at lw_m7 82 rfl) rfl
theorem q1641 : (Jvm.Cond.methodLink "TollOnVowelsLaw" (174 : Nat) ({ cls := "TollOnVowelsModel", name := "said", desc := "()I" } : Jvm.MethodName)) ∈ lw_all := lw_g (lw_at lw_m7 86 rfl) rfl
theorem q1661 : (Jvm.Cond.methodLink "TollOnVowelsLaw" (178 : Nat) ({ cls := "TollOnVowelsModel", name := "ask", desc := "()I" } : Jvm.MethodName)) ∈ lw_all := lw_g (lw_at lw_m7 106 rfl) rfl
theorem q1665 : (Jvm.Cond.methodLink "TollOnVowelsLaw" (182 : Nat) ({ cls := "TollOnVowelsModel", name := "years", desc := "(II)I" } : Jvm.MethodName)) ∈ lw_all := lw_g (lw_at lw_m7 110 rfl) rfl
theorem q1674 : (Jvm.Cond.methodLink "TollOnVowelsLaw" (186 : Nat) ({ cls := "TollOnVowelsModel", name := "keep", desc := "(I)Z" } : Jvm.MethodName)) ∈ lw_all := lw_g (lw_at lw_m7 119 rfl) rfl
theorem q1678 : (Jvm.Cond.methodLink "TollOnVowelsLaw" (190 : Nat) ({ cls := "TollOnVowelsModel", name := "again", desc := "(I)Z" } : Jvm.MethodName)) ∈ lw_all := lw_g (lw_at lw_m7 123 rfl) rfl
theorem q1682 : (Jvm.Cond.methodLink "TollOnVowelsLaw" (194 : Nat) ({ cls := "TollOnVowelsModel", name := "count", desc := "(I)I" } : Jvm.MethodName)) ∈ lw_all := lw_g (lw_at lw_m7 127 rfl) rfl
theorem q1690 : (Jvm.Cond.methodLink "TollOnVowelsLaw" (198 : Nat) ({ cls := "TollOnVowelsModel", name := "row", desc := "(I)J" } : Jvm.MethodName)) ∈ lw_all := lw_g (lw_at lw_m7 135 rfl) rfl

def RJ0 : String := "java/lang/Math"
abbrev cJ0_min : ByteArray := prog_16_method_69_code
def yJ0_min : MethodName := ⟨RJ0, "min", "(II)I"⟩
abbrev cJ0_max : ByteArray := prog_16_method_65_code
def yJ0_max : MethodName := ⟨RJ0, "max", "(II)I"⟩
theorem q119 : (Jvm.Cond.initialized "java/lang/Math") ∈ lw_all := lw_g (lw_at lw_m1 4 rfl) rfl
theorem q410 : (Jvm.Cond.static ({ cls := "java/lang/Math", name := "min", desc := "(II)I" } : Jvm.MethodName)) ∈ lw_all := lw_g (lw_at lw_m2 55 rfl) rfl
theorem q411 : (Jvm.Cond.code ({ cls := "java/lang/Math", name := "min", desc := "(II)I" } : Jvm.MethodName) prog_16_method_69_code (2 : Nat) (Option.some Jvm.ClassFile.FieldType.int)) ∈ lw_all := lw_g (lw_at lw_m2 56 rfl) rfl
theorem q454 : (Jvm.Cond.static ({ cls := "java/lang/Math", name := "max", desc := "(II)I" } : Jvm.MethodName)) ∈ lw_all := lw_g (lw_at lw_m2 99 rfl) rfl
theorem q455 : (Jvm.Cond.code ({ cls := "java/lang/Math", name := "max", desc := "(II)I" } : Jvm.MethodName) prog_16_method_65_code (2 : Nat) (Option.some Jvm.ClassFile.FieldType.int)) ∈ lw_all := lw_g (lw_at lw_m2 100 rfl) rfl

def RJ1 : String := "java/lang/String"
abbrev cJ1_indexOf : ByteArray := prog_18_method_79_code
def yJ1_indexOf : MethodName := ⟨RJ1, "indexOf", "(I)I"⟩
abbrev cJ1_indexOf_2 : ByteArray := prog_18_method_80_code
def yJ1_indexOf_2 : MethodName := ⟨RJ1, "indexOf", "(II)I"⟩
abbrev cJ1_isLatin1 : ByteArray := prog_18_method_154_code
def yJ1_isLatin1 : MethodName := ⟨RJ1, "isLatin1", "()Z"⟩
abbrev cJ1_length : ByteArray := prog_18_method_54_code
def yJ1_length : MethodName := ⟨RJ1, "length", "()I"⟩
abbrev cJ1_coder : ByteArray := prog_18_method_152_code
def yJ1_coder : MethodName := ⟨RJ1, "coder", "()B"⟩
abbrev cJ1_checkBoundsBeginEnd : ByteArray := prog_18_method_158_code
def yJ1_checkBoundsBeginEnd : MethodName := ⟨RJ1, "checkBoundsBeginEnd", "(III)V"⟩
theorem q120 : (Jvm.Cond.initialized "java/lang/String") ∈ lw_all := lw_g (lw_at lw_m1 5 rfl) rfl
theorem q426 : (Jvm.Cond.instanceMethod ({ cls := "java/lang/String", name := "indexOf", desc := "(I)I" } : Jvm.MethodName)) ∈ lw_all := lw_g (lw_at lw_m2 71 rfl) rfl
theorem q427 : (Jvm.Cond.selects "java/lang/String" ({ cls := "java/lang/String", name := "indexOf", desc := "(I)I" } : Jvm.MethodName) ({ cls := "java/lang/String", name := "indexOf", desc := "(I)I" } : Jvm.MethodName)) ∈ lw_all := lw_g (lw_at lw_m2 72 rfl) rfl
theorem q428 : (Jvm.Cond.code ({ cls := "java/lang/String", name := "indexOf", desc := "(I)I" } : Jvm.MethodName) prog_18_method_79_code (2 : Nat) (Option.some Jvm.ClassFile.FieldType.int)) ∈ lw_all := lw_g (lw_at lw_m2 73 rfl) rfl
theorem q429 : (Jvm.Cond.methodLink "java/lang/String" (633 : Nat) ({ cls := "java/lang/String", name := "indexOf", desc := "(II)I" } : Jvm.MethodName)) ∈ lw_all := lw_g (lw_at lw_m2 74 rfl) rfl
theorem q430 : (Jvm.Cond.instanceMethod ({ cls := "java/lang/String", name := "indexOf", desc := "(II)I" } : Jvm.MethodName)) ∈ lw_all := lw_g (lw_at lw_m2 75 rfl) rfl
theorem q431 : (Jvm.Cond.selects "java/lang/String" ({ cls := "java/lang/String", name := "indexOf", desc := "(II)I" } : Jvm.MethodName) ({ cls := "java/lang/String", name := "indexOf", desc := "(II)I" } : Jvm.MethodName)) ∈ lw_all := lw_g (lw_at lw_m2 76 rfl) rfl
theorem q432 : (Jvm.Cond.code ({ cls := "java/lang/String", name := "indexOf", desc := "(II)I" } : Jvm.MethodName) prog_18_method_80_code (3 : Nat) (Option.some Jvm.ClassFile.FieldType.int)) ∈ lw_all := lw_g (lw_at lw_m2 77 rfl) rfl
theorem q433 : (Jvm.Cond.methodLink "java/lang/String" (492 : Nat) ({ cls := "java/lang/String", name := "isLatin1", desc := "()Z" } : Jvm.MethodName)) ∈ lw_all := lw_g (lw_at lw_m2 78 rfl) rfl
theorem q434 : (Jvm.Cond.instanceMethod ({ cls := "java/lang/String", name := "isLatin1", desc := "()Z" } : Jvm.MethodName)) ∈ lw_all := lw_g (lw_at lw_m2 79 rfl) rfl
theorem q435 : (Jvm.Cond.selects "java/lang/String" ({ cls := "java/lang/String", name := "isLatin1", desc := "()Z" } : Jvm.MethodName) ({ cls := "java/lang/String", name := "isLatin1", desc := "()Z" } : Jvm.MethodName)) ∈ lw_all := lw_g (lw_at lw_m2 80 rfl) rfl
theorem q436 : (Jvm.Cond.code ({ cls := "java/lang/String", name := "isLatin1", desc := "()Z" } : Jvm.MethodName) prog_18_method_154_code (1 : Nat) (Option.some Jvm.ClassFile.FieldType.boolean)) ∈ lw_all := lw_g (lw_at lw_m2 81 rfl) rfl
theorem q437 : (Jvm.Cond.fieldLink "java/lang/String" (38 : Nat) "java/lang/String" "COMPACT_STRINGS" "Z") ∈ lw_all := lw_g (lw_at lw_m2 82 rfl) rfl
theorem q438 : (Jvm.Cond.laysStatic "java/lang/String" "COMPACT_STRINGS" "Z") ∈ lw_tbl := lw_at lw_m2 83 rfl
theorem q439 : (Jvm.Cond.methodLink "java/lang/String" (505 : Nat) ({ cls := "java/lang/String", name := "length", desc := "()I" } : Jvm.MethodName)) ∈ lw_all := lw_g (lw_at lw_m2 84 rfl) rfl
theorem q440 : (Jvm.Cond.instanceMethod ({ cls := "java/lang/String", name := "length", desc := "()I" } : Jvm.MethodName)) ∈ lw_all := lw_g (lw_at lw_m2 85 rfl) rfl
theorem q441 : (Jvm.Cond.selects "java/lang/String" ({ cls := "java/lang/String", name := "length", desc := "()I" } : Jvm.MethodName) ({ cls := "java/lang/String", name := "length", desc := "()I" } : Jvm.MethodName)) ∈ lw_all := lw_g (lw_at lw_m2 86 rfl) rfl
theorem q442 : (Jvm.Cond.code ({ cls := "java/lang/String", name := "length", desc := "()I" } : Jvm.MethodName) prog_18_method_54_code (1 : Nat) (Option.some Jvm.ClassFile.FieldType.int)) ∈ lw_all := lw_g (lw_at lw_m2 87 rfl) rfl
theorem q443 : (Jvm.Cond.methodLink "java/lang/String" (335 : Nat) ({ cls := "java/lang/String", name := "coder", desc := "()B" } : Jvm.MethodName)) ∈ lw_all := lw_g (lw_at lw_m2 88 rfl) rfl
theorem q444 : (Jvm.Cond.instanceMethod ({ cls := "java/lang/String", name := "coder", desc := "()B" } : Jvm.MethodName)) ∈ lw_all := lw_g (lw_at lw_m2 89 rfl) rfl
theorem q445 : (Jvm.Cond.selects "java/lang/String" ({ cls := "java/lang/String", name := "coder", desc := "()B" } : Jvm.MethodName) ({ cls := "java/lang/String", name := "coder", desc := "()B" } : Jvm.MethodName)) ∈ lw_all := lw_g (lw_at lw_m2 90 rfl) rfl
theorem q446 : (Jvm.Cond.code ({ cls := "java/lang/String", name := "coder", desc := "()B" } : Jvm.MethodName) prog_18_method_152_code (1 : Nat) (Option.some Jvm.ClassFile.FieldType.byte)) ∈ lw_all := lw_g (lw_at lw_m2 91 rfl) rfl
theorem q447 : (Jvm.Cond.methodLink "java/lang/String" (637 : Nat) ({ cls := "java/lang/StringLatin1", name := "indexOf", desc := "([BIII)I" } : Jvm.MethodName)) ∈ lw_all := lw_g (lw_at lw_m2 92 rfl) rfl
theorem q460 : (Jvm.Cond.methodLink "java/lang/String" (640 : Nat) ({ cls := "java/lang/StringUTF16", name := "indexOf", desc := "([BIII)I" } : Jvm.MethodName)) ∈ lw_all := lw_g (lw_at lw_m2 105 rfl) rfl
theorem q476 : (Jvm.Cond.static ({ cls := "java/lang/String", name := "checkBoundsBeginEnd", desc := "(III)V" } : Jvm.MethodName)) ∈ lw_all := lw_g (lw_at lw_m2 121 rfl) rfl
theorem q477 : (Jvm.Cond.code ({ cls := "java/lang/String", name := "checkBoundsBeginEnd", desc := "(III)V" } : Jvm.MethodName) prog_18_method_158_code (3 : Nat) (Option.none : Option Jvm.ClassFile.FieldType)) ∈ lw_all := lw_g (lw_at lw_m2 122 rfl) rfl
theorem q478 : (Jvm.Cond.fieldLink "java/lang/String" (1053 : Nat) "jdk/internal/util/Preconditions" "SIOOBE_FORMATTER" "Ljava/util/function/BiFunction;") ∈ lw_all := lw_g (lw_at lw_m2 123 rfl) rfl
theorem q480 : (Jvm.Cond.methodLink "java/lang/String" (1062 : Nat) ({ cls := "jdk/internal/util/Preconditions", name := "checkFromToIndex", desc := "(IIILjava/util/function/BiFunction;)I" } : Jvm.MethodName)) ∈ lw_all := lw_g (lw_at lw_m2 125 rfl) rfl
theorem q1704 : (Jvm.Cond.castable "java/lang/String" "java/lang/Object") ∈ lw_tbl := lw_at lw_m7 149 rfl
theorem q1705 : (Jvm.Cond.fieldLink "java/lang/String" (15 : Nat) "java/lang/String" "coder" "B") ∈ lw_all := lw_g (lw_at lw_m7 150 rfl) rfl
theorem q1706 : (Jvm.Cond.fieldLink "java/lang/String" (9 : Nat) "java/lang/String" "value" "[B") ∈ lw_all := lw_g (lw_at lw_m7 151 rfl) rfl

def RJ2 : String := "java/lang/StringLatin1"
abbrev cJ2_indexOf : ByteArray := prog_19_method_22_code
def yJ2_indexOf : MethodName := ⟨RJ2, "indexOf", "([BIII)I"⟩
abbrev cJ2_canEncode : ByteArray := prog_19_method_4_code
def yJ2_canEncode : MethodName := ⟨RJ2, "canEncode", "(I)Z"⟩
abbrev cJ2_indexOfChar : ByteArray := prog_19_method_23_code
def yJ2_indexOfChar : MethodName := ⟨RJ2, "indexOfChar", "([BIII)I"⟩
theorem q121 : (Jvm.Cond.initialized "java/lang/StringLatin1") ∈ lw_all := lw_g (lw_at lw_m1 6 rfl) rfl
theorem q448 : (Jvm.Cond.static ({ cls := "java/lang/StringLatin1", name := "indexOf", desc := "([BIII)I" } : Jvm.MethodName)) ∈ lw_all := lw_g (lw_at lw_m2 93 rfl) rfl
theorem q449 : (Jvm.Cond.code ({ cls := "java/lang/StringLatin1", name := "indexOf", desc := "([BIII)I" } : Jvm.MethodName) prog_19_method_22_code (4 : Nat) (Option.some Jvm.ClassFile.FieldType.int)) ∈ lw_all := lw_g (lw_at lw_m2 94 rfl) rfl
theorem q450 : (Jvm.Cond.methodLink "java/lang/StringLatin1" (88 : Nat) ({ cls := "java/lang/StringLatin1", name := "canEncode", desc := "(I)Z" } : Jvm.MethodName)) ∈ lw_all := lw_g (lw_at lw_m2 95 rfl) rfl
theorem q451 : (Jvm.Cond.static ({ cls := "java/lang/StringLatin1", name := "canEncode", desc := "(I)Z" } : Jvm.MethodName)) ∈ lw_all := lw_g (lw_at lw_m2 96 rfl) rfl
theorem q452 : (Jvm.Cond.code ({ cls := "java/lang/StringLatin1", name := "canEncode", desc := "(I)Z" } : Jvm.MethodName) prog_19_method_4_code (1 : Nat) (Option.some Jvm.ClassFile.FieldType.boolean)) ∈ lw_all := lw_g (lw_at lw_m2 97 rfl) rfl
theorem q453 : (Jvm.Cond.methodLink "java/lang/StringLatin1" (92 : Nat) ({ cls := "java/lang/Math", name := "max", desc := "(II)I" } : Jvm.MethodName)) ∈ lw_all := lw_g (lw_at lw_m2 98 rfl) rfl
theorem q456 : (Jvm.Cond.methodLink "java/lang/StringLatin1" (38 : Nat) ({ cls := "java/lang/Math", name := "min", desc := "(II)I" } : Jvm.MethodName)) ∈ lw_all := lw_g (lw_at lw_m2 101 rfl) rfl
theorem q457 : (Jvm.Cond.methodLink "java/lang/StringLatin1" (95 : Nat) ({ cls := "java/lang/StringLatin1", name := "indexOfChar", desc := "([BIII)I" } : Jvm.MethodName)) ∈ lw_all := lw_g (lw_at lw_m2 102 rfl) rfl
theorem q458 : (Jvm.Cond.static ({ cls := "java/lang/StringLatin1", name := "indexOfChar", desc := "([BIII)I" } : Jvm.MethodName)) ∈ lw_all := lw_g (lw_at lw_m2 103 rfl) rfl
theorem q459 : (Jvm.Cond.code ({ cls := "java/lang/StringLatin1", name := "indexOfChar", desc := "([BIII)I" } : Jvm.MethodName) prog_19_method_23_code (6 : Nat) (Option.some Jvm.ClassFile.FieldType.int)) ∈ lw_all := lw_g (lw_at lw_m2 104 rfl) rfl

def RJ6 : String := "java/lang/Throwable"
def TJ6 : u_T := fun k => match k with
  | 0 => ("java/lang/Throwable", "cause", "Ljava/lang/Throwable;", false)
  | 1 => ("java/lang/Throwable", "stackTrace", "[Ljava/lang/StackTraceElement;", false)
  | 2 => ("java/lang/Throwable", "suppressedExceptions", "Ljava/util/List;", false)
  | 3 => ("java/lang/Throwable", "detailMessage", "Ljava/lang/String;", false)
  | _ => ("java/lang/Throwable", "backtrace", "Ljava/lang/Object;", false)
def tyJ6 : Nat → FieldType := fun k => match k with
  | 0 => .object "java/lang/Throwable"
  | 1 => .array (.object "java/lang/StackTraceElement")
  | 2 => .object "java/util/List"
  | 3 => .object "java/lang/String"
  | _ => .object "java/lang/Object"
abbrev wsJ60 : List Cond := u_ws RJ6 TJ6 5
theorem nmJ6 : ∀ a, a < 5 → ∀ b, b < 5 → a ≠ b → (TJ6 a).2.1 ≠ (TJ6 b).2.1 := by decide +kernel
theorem tyJ6_ok : ∀ k, k < 5 → parseFieldDescriptor (TJ6 k).2.2.1 = some (tyJ6 k) := by decide +kernel
abbrev cJ6_init : ByteArray := prog_22_method_1_code
def yJ6_init : MethodName := ⟨RJ6, "<init>", "()V"⟩
theorem q131 : (Jvm.Cond.initialized "java/lang/Throwable") ∈ lw_all := lw_g (lw_at lw_m1 16 rfl) rfl
theorem q1018 : (Jvm.Cond.declares ({ cls := "java/lang/Throwable", name := "<init>", desc := "()V" } : Jvm.MethodName)) ∈ lw_tbl := lw_at lw_m4 183 rfl
theorem q1019 : (Jvm.Cond.declares ({ cls := "java/lang/Throwable", name := "<init>", desc := "(Ljava/lang/String;)V" } : Jvm.MethodName)) ∈ lw_tbl := lw_at lw_m4 184 rfl
theorem q1023 : (Jvm.Cond.lays "java/lang/Throwable" "java/lang/Throwable" "cause" "Ljava/lang/Throwable;") ∈ lw_all := lw_g (lw_at lw_m4 188 rfl) rfl
theorem q1025 : (Jvm.Cond.lays "java/lang/Throwable" "java/lang/Throwable" "stackTrace" "[Ljava/lang/StackTraceElement;") ∈ lw_all := lw_g (lw_at lw_m4 190 rfl) rfl
theorem q1027 : (Jvm.Cond.lays "java/lang/Throwable" "java/lang/Throwable" "suppressedExceptions" "Ljava/util/List;") ∈ lw_all := lw_g (lw_at lw_m4 192 rfl) rfl
theorem q1029 : (Jvm.Cond.lays "java/lang/Throwable" "java/lang/Throwable" "detailMessage" "Ljava/lang/String;") ∈ lw_all := lw_g (lw_at lw_m4 194 rfl) rfl
theorem q1031 : (Jvm.Cond.lays "java/lang/Throwable" "java/lang/Throwable" "backtrace" "Ljava/lang/Object;") ∈ lw_all := lw_g (lw_at lw_m4 196 rfl) rfl
theorem q1032 : (Jvm.Cond.fieldLink "java/lang/Throwable" (198 : Nat) "java/lang/Throwable" "backtrace" "Ljava/lang/Object;") ∈ lw_all := lw_g (lw_at lw_m4 197 rfl) rfl
theorem q1033 : (Jvm.Cond.superclass "java/lang/Throwable" "java/lang/Object") ∈ lw_all := lw_g (lw_at lw_m4 198 rfl) rfl
theorem q1034 : (Jvm.Cond.instanceMethod ({ cls := "java/lang/Throwable", name := "<init>", desc := "()V" } : Jvm.MethodName)) ∈ lw_all := lw_g (lw_at lw_m4 199 rfl) rfl
theorem q1035 : (Jvm.Cond.code ({ cls := "java/lang/Throwable", name := "<init>", desc := "()V" } : Jvm.MethodName) prog_22_method_1_code (1 : Nat) (Option.none : Option Jvm.ClassFile.FieldType)) ∈ lw_all := lw_g (lw_at lw_m4 200 rfl) rfl
theorem q1036 : (Jvm.Cond.methodLink "java/lang/Throwable" (1 : Nat) ({ cls := "java/lang/Object", name := "<init>", desc := "()V" } : Jvm.MethodName)) ∈ lw_all := lw_g (lw_at lw_m4 201 rfl) rfl
theorem q1037 : (Jvm.Cond.fieldLink "java/lang/Throwable" (13 : Nat) "java/lang/Throwable" "UNASSIGNED_STACK" "[Ljava/lang/StackTraceElement;") ∈ lw_all := lw_g (lw_at lw_m4 202 rfl) rfl
theorem q1038 : (Jvm.Cond.laysStatic "java/lang/Throwable" "UNASSIGNED_STACK" "[Ljava/lang/StackTraceElement;") ∈ lw_tbl := lw_at lw_m4 203 rfl
theorem q1039 : (Jvm.Cond.fieldLink "java/lang/Throwable" (20 : Nat) "java/lang/Throwable" "SUPPRESSED_SENTINEL" "Ljava/util/List;") ∈ lw_all := lw_g (lw_at lw_m4 204 rfl) rfl
theorem q1040 : (Jvm.Cond.laysStatic "java/lang/Throwable" "SUPPRESSED_SENTINEL" "Ljava/util/List;") ∈ lw_tbl := lw_at lw_m4 205 rfl
theorem q1041 : (Jvm.Cond.methodLink "java/lang/Throwable" (27 : Nat) ({ cls := "java/lang/Throwable", name := "fillInStackTrace", desc := "()Ljava/lang/Throwable;" } : Jvm.MethodName)) ∈ lw_all := lw_g (lw_at lw_m4 206 rfl) rfl
theorem q1042 : (Jvm.Cond.instanceMethod ({ cls := "java/lang/Throwable", name := "fillInStackTrace", desc := "()Ljava/lang/Throwable;" } : Jvm.MethodName)) ∈ lw_all := lw_g (lw_at lw_m4 207 rfl) rfl
theorem q1043 : (Jvm.Cond.sameMethod "java/lang/Throwable" "java/lang/Throwable" "fillInStackTrace" "()Ljava/lang/Throwable;") ∈ lw_all := lw_g (lw_at lw_m4 208 rfl) rfl
theorem q1044 : (Jvm.Cond.codeSync ({ cls := "java/lang/Throwable", name := "fillInStackTrace", desc := "()Ljava/lang/Throwable;" } : Jvm.MethodName) prog_22_method_18_code (1 : Nat) (Option.some (Jvm.ClassFile.FieldType.object "java/lang/Throwable"))) ∈ lw_all := lw_g (lw_at lw_m4 209 rfl) rfl
theorem q1045 : (Jvm.Cond.methodLink "java/lang/Throwable" (202 : Nat) ({ cls := "java/lang/Throwable", name := "fillInStackTrace", desc := "(I)Ljava/lang/Throwable;" } : Jvm.MethodName)) ∈ lw_all := lw_g (lw_at lw_m4 210 rfl) rfl
theorem q1046 : (Jvm.Cond.privateMethod ({ cls := "java/lang/Throwable", name := "fillInStackTrace", desc := "(I)Ljava/lang/Throwable;" } : Jvm.MethodName)) ∈ lw_tbl := lw_at lw_m4 211 rfl
theorem q1047 : (Jvm.Cond.instanceMethod ({ cls := "java/lang/Throwable", name := "fillInStackTrace", desc := "(I)Ljava/lang/Throwable;" } : Jvm.MethodName)) ∈ lw_all := lw_g (lw_at lw_m4 212 rfl) rfl
theorem q1048 : (Jvm.Cond.instantiable "java/lang/Throwable" (6 : Nat)) ∈ lw_all := lw_g (lw_at lw_m4 213 rfl) rfl
theorem q1049 : (Jvm.Cond.native ({ cls := "java/lang/Throwable", name := "fillInStackTrace", desc := "(I)Ljava/lang/Throwable;" } : Jvm.MethodName)) ∈ lw_all := lw_g (lw_at lw_m4 214 rfl) rfl
theorem q1060 : (Jvm.Cond.fieldLink "java/lang/Throwable" (198 : Nat) "java/lang/Throwable" "backtrace" "Ljava/lang/Object;") ∈ lw_all := lw_g (lw_at lw_m4 225 rfl) rfl
theorem q1061 : (Jvm.Cond.fieldLink "java/lang/Throwable" (7 : Nat) "java/lang/Throwable" "cause" "Ljava/lang/Throwable;") ∈ lw_all := lw_g (lw_at lw_m4 226 rfl) rfl
theorem q1062 : (Jvm.Cond.fieldLink "java/lang/Throwable" (17 : Nat) "java/lang/Throwable" "stackTrace" "[Ljava/lang/StackTraceElement;") ∈ lw_all := lw_g (lw_at lw_m4 227 rfl) rfl
theorem q1063 : (Jvm.Cond.fieldLink "java/lang/Throwable" (24 : Nat) "java/lang/Throwable" "suppressedExceptions" "Ljava/util/List;") ∈ lw_all := lw_g (lw_at lw_m4 228 rfl) rfl
theorem q1064 : (Jvm.Cond.soleField "java/lang/Throwable" "backtrace") ∈ lw_all := lw_g (lw_at lw_m4 229 rfl) rfl
theorem q1065 : (Jvm.Cond.soleField "java/lang/Throwable" "detailMessage") ∈ lw_all := lw_g (lw_at lw_m4 230 rfl) rfl
theorem q1066 : (Jvm.Cond.soleField "java/lang/Throwable" "cause") ∈ lw_all := lw_g (lw_at lw_m4 231 rfl) rfl
theorem q1067 : (Jvm.Cond.soleField "java/lang/Throwable" "stackTrace") ∈ lw_all := lw_g (lw_at lw_m4 232 rfl) rfl
theorem q1069 : (Jvm.Cond.soleField "java/lang/Throwable" "depth") ∈ lw_all := lw_g (lw_at lw_m4 234 rfl) rfl
theorem q1070 : (Jvm.Cond.soleField "java/lang/Throwable" "suppressedExceptions") ∈ lw_all := lw_g (lw_at lw_m4 235 rfl) rfl
theorem q1694 : (Jvm.Cond.sameMethod "java/lang/Throwable" "java/lang/Throwable" "fillInStackTrace" "(I)Ljava/lang/Throwable;") ∈ lw_all := lw_g (lw_at lw_m7 139 rfl) rfl
theorem q1703 : (Jvm.Cond.castable "java/lang/Throwable" "java/lang/Object") ∈ lw_tbl := lw_at lw_m7 148 rfl
theorem in_J6 : ∀ w ∈ wsJ60, w ∈ lw_all := lw_in wsJ60 [1023, 1025, 1027, 1029, 1031] (by decide +kernel) (by decide +kernel)

def RJ7 : String := "java/lang/Exception"
abbrev cJ7_init : ByteArray := prog_14_method_1_code
def yJ7_init : MethodName := ⟨RJ7, "<init>", "()V"⟩
theorem q132 : (Jvm.Cond.initialized "java/lang/Exception") ∈ lw_all := lw_g (lw_at lw_m1 17 rfl) rfl
theorem q1016 : (Jvm.Cond.declares ({ cls := "java/lang/Exception", name := "<init>", desc := "()V" } : Jvm.MethodName)) ∈ lw_tbl := lw_at lw_m4 181 rfl
theorem q1017 : (Jvm.Cond.declares ({ cls := "java/lang/Exception", name := "<init>", desc := "(Ljava/lang/String;)V" } : Jvm.MethodName)) ∈ lw_tbl := lw_at lw_m4 182 rfl
theorem q1057 : (Jvm.Cond.instanceMethod ({ cls := "java/lang/Exception", name := "<init>", desc := "()V" } : Jvm.MethodName)) ∈ lw_all := lw_g (lw_at lw_m4 222 rfl) rfl
theorem q1058 : (Jvm.Cond.code ({ cls := "java/lang/Exception", name := "<init>", desc := "()V" } : Jvm.MethodName) prog_14_method_1_code (1 : Nat) (Option.none : Option Jvm.ClassFile.FieldType)) ∈ lw_all := lw_g (lw_at lw_m4 223 rfl) rfl
theorem q1059 : (Jvm.Cond.methodLink "java/lang/Exception" (1 : Nat) ({ cls := "java/lang/Throwable", name := "<init>", desc := "()V" } : Jvm.MethodName)) ∈ lw_all := lw_g (lw_at lw_m4 224 rfl) rfl

def RJ8 : String := "java/lang/RuntimeException"
abbrev cJ8_init : ByteArray := prog_17_method_1_code
def yJ8_init : MethodName := ⟨RJ8, "<init>", "()V"⟩
theorem q133 : (Jvm.Cond.initialized "java/lang/RuntimeException") ∈ lw_all := lw_g (lw_at lw_m1 18 rfl) rfl
theorem q1014 : (Jvm.Cond.declares ({ cls := "java/lang/RuntimeException", name := "<init>", desc := "()V" } : Jvm.MethodName)) ∈ lw_tbl := lw_at lw_m4 179 rfl
theorem q1015 : (Jvm.Cond.declares ({ cls := "java/lang/RuntimeException", name := "<init>", desc := "(Ljava/lang/String;)V" } : Jvm.MethodName)) ∈ lw_tbl := lw_at lw_m4 180 rfl
theorem q1054 : (Jvm.Cond.instanceMethod ({ cls := "java/lang/RuntimeException", name := "<init>", desc := "()V" } : Jvm.MethodName)) ∈ lw_all := lw_g (lw_at lw_m4 219 rfl) rfl
theorem q1055 : (Jvm.Cond.code ({ cls := "java/lang/RuntimeException", name := "<init>", desc := "()V" } : Jvm.MethodName) prog_17_method_1_code (1 : Nat) (Option.none : Option Jvm.ClassFile.FieldType)) ∈ lw_all := lw_g (lw_at lw_m4 220 rfl) rfl
theorem q1056 : (Jvm.Cond.methodLink "java/lang/RuntimeException" (1 : Nat) ({ cls := "java/lang/Exception", name := "<init>", desc := "()V" } : Jvm.MethodName)) ∈ lw_all := lw_g (lw_at lw_m4 221 rfl) rfl

def RJ9 : String := "java/util/NoSuchElementException"
def TJ9 : u_T := fun k => match k with
  | 0 => ("java/lang/Throwable", "cause", "Ljava/lang/Throwable;", false)
  | 1 => ("java/lang/Throwable", "stackTrace", "[Ljava/lang/StackTraceElement;", false)
  | 2 => ("java/lang/Throwable", "suppressedExceptions", "Ljava/util/List;", false)
  | 3 => ("java/lang/Throwable", "detailMessage", "Ljava/lang/String;", false)
  | 4 => ("java/lang/Throwable", "backtrace", "Ljava/lang/Object;", false)
  | _ => ("java/lang/Throwable", "depth", "I", false)
def tyJ9 : Nat → FieldType := fun k => match k with
  | 0 => .object "java/lang/Throwable"
  | 1 => .array (.object "java/lang/StackTraceElement")
  | 2 => .object "java/util/List"
  | 3 => .object "java/lang/String"
  | 4 => .object "java/lang/Object"
  | _ => .int
abbrev wsJ90 : List Cond := u_ws RJ9 TJ9 6
theorem nmJ9 : ∀ a, a < 6 → ∀ b, b < 6 → a ≠ b → (TJ9 a).2.1 ≠ (TJ9 b).2.1 := by decide +kernel
theorem tyJ9_ok : ∀ k, k < 6 → parseFieldDescriptor (TJ9 k).2.2.1 = some (tyJ9 k) := by decide +kernel
abbrev cJ9_init : ByteArray := prog_25_method_1_code
def yJ9_init : MethodName := ⟨RJ9, "<init>", "()V"⟩
theorem q134 : (Jvm.Cond.initialized "java/util/NoSuchElementException") ∈ lw_all := lw_g (lw_at lw_m1 19 rfl) rfl
theorem q1012 : (Jvm.Cond.instantiable "java/util/NoSuchElementException" (6 : Nat)) ∈ lw_all := lw_g (lw_at lw_m4 177 rfl) rfl
theorem q1013 : (Jvm.Cond.castable "java/util/NoSuchElementException" "java/util/NoSuchElementException") ∈ lw_tbl := lw_at lw_m4 178 rfl
theorem q1020 : (Jvm.Cond.selects "java/util/NoSuchElementException" ({ cls := "java/lang/Throwable", name := "fillInStackTrace", desc := "(I)Ljava/lang/Throwable;" } : Jvm.MethodName) ({ cls := "java/lang/Throwable", name := "fillInStackTrace", desc := "(I)Ljava/lang/Throwable;" } : Jvm.MethodName)) ∈ lw_all := lw_g (lw_at lw_m4 185 rfl) rfl
theorem q1021 : (Jvm.Cond.selects "java/util/NoSuchElementException" ({ cls := "java/lang/Throwable", name := "fillInStackTrace", desc := "()Ljava/lang/Throwable;" } : Jvm.MethodName) ({ cls := "java/lang/Throwable", name := "fillInStackTrace", desc := "()Ljava/lang/Throwable;" } : Jvm.MethodName)) ∈ lw_all := lw_g (lw_at lw_m4 186 rfl) rfl
theorem q1022 : (Jvm.Cond.lays "java/util/NoSuchElementException" "java/lang/Throwable" "cause" "Ljava/lang/Throwable;") ∈ lw_all := lw_g (lw_at lw_m4 187 rfl) rfl
theorem q1024 : (Jvm.Cond.lays "java/util/NoSuchElementException" "java/lang/Throwable" "stackTrace" "[Ljava/lang/StackTraceElement;") ∈ lw_all := lw_g (lw_at lw_m4 189 rfl) rfl
theorem q1026 : (Jvm.Cond.lays "java/util/NoSuchElementException" "java/lang/Throwable" "suppressedExceptions" "Ljava/util/List;") ∈ lw_all := lw_g (lw_at lw_m4 191 rfl) rfl
theorem q1028 : (Jvm.Cond.lays "java/util/NoSuchElementException" "java/lang/Throwable" "detailMessage" "Ljava/lang/String;") ∈ lw_all := lw_g (lw_at lw_m4 193 rfl) rfl
theorem q1030 : (Jvm.Cond.lays "java/util/NoSuchElementException" "java/lang/Throwable" "backtrace" "Ljava/lang/Object;") ∈ lw_all := lw_g (lw_at lw_m4 195 rfl) rfl
theorem q1051 : (Jvm.Cond.instanceMethod ({ cls := "java/util/NoSuchElementException", name := "<init>", desc := "()V" } : Jvm.MethodName)) ∈ lw_all := lw_g (lw_at lw_m4 216 rfl) rfl
theorem q1052 : (Jvm.Cond.code ({ cls := "java/util/NoSuchElementException", name := "<init>", desc := "()V" } : Jvm.MethodName) prog_25_method_1_code (1 : Nat) (Option.none : Option Jvm.ClassFile.FieldType)) ∈ lw_all := lw_g (lw_at lw_m4 217 rfl) rfl
theorem q1053 : (Jvm.Cond.methodLink "java/util/NoSuchElementException" (1 : Nat) ({ cls := "java/lang/RuntimeException", name := "<init>", desc := "()V" } : Jvm.MethodName)) ∈ lw_all := lw_g (lw_at lw_m4 218 rfl) rfl
theorem q1068 : (Jvm.Cond.lays "java/util/NoSuchElementException" "java/lang/Throwable" "depth" "I") ∈ lw_all := lw_g (lw_at lw_m4 233 rfl) rfl
theorem q1071 : (Jvm.Cond.superclass "java/util/NoSuchElementException" "java/lang/RuntimeException") ∈ lw_all := lw_g (lw_at lw_m4 236 rfl) rfl
theorem q1702 : (Jvm.Cond.castable "java/util/NoSuchElementException" "java/lang/Object") ∈ lw_tbl := lw_at lw_m7 147 rfl
theorem in_J9 : ∀ w ∈ wsJ90, w ∈ lw_all := lw_in wsJ90 [1022, 1024, 1026, 1028, 1030, 1068] (by decide +kernel) (by decide +kernel)

def RJ10 : String := "java/lang/Integer"
abbrev cJ10_bitCount : ByteArray := prog_15_method_49_code
def yJ10_bitCount : MethodName := ⟨RJ10, "bitCount", "(I)I"⟩
theorem q135 : (Jvm.Cond.initialized "java/lang/Integer") ∈ lw_all := lw_g (lw_at lw_m1 20 rfl) rfl
theorem q867 : (Jvm.Cond.static ({ cls := "java/lang/Integer", name := "bitCount", desc := "(I)I" } : Jvm.MethodName)) ∈ lw_all := lw_g (lw_at lw_m4 32 rfl) rfl
theorem q868 : (Jvm.Cond.code ({ cls := "java/lang/Integer", name := "bitCount", desc := "(I)I" } : Jvm.MethodName) prog_15_method_49_code (1 : Nat) (Option.some Jvm.ClassFile.FieldType.int)) ∈ lw_all := lw_g (lw_at lw_m4 33 rfl) rfl
theorem q869 : (Jvm.Cond.constant "java/lang/Integer" (265 : Nat) (1431655765 : Int32)) ∈ lw_all := lw_g (lw_at lw_m4 34 rfl) rfl
theorem q870 : (Jvm.Cond.constant "java/lang/Integer" (266 : Nat) (858993459 : Int32)) ∈ lw_all := lw_g (lw_at lw_m4 35 rfl) rfl
theorem q871 : (Jvm.Cond.constant "java/lang/Integer" (267 : Nat) (252645135 : Int32)) ∈ lw_all := lw_g (lw_at lw_m4 36 rfl) rfl

def RJ11 : String := "java/lang/Object"
abbrev cJ11_init : ByteArray := object_method_1_code
def yJ11_init : MethodName := ⟨RJ11, "<init>", "()V"⟩
theorem q142 : (Jvm.Cond.instanceMethod ({ cls := "java/lang/Object", name := "<init>", desc := "()V" } : Jvm.MethodName)) ∈ lw_all := lw_g (lw_at lw_m1 27 rfl) rfl
theorem q143 : (Jvm.Cond.code ({ cls := "java/lang/Object", name := "<init>", desc := "()V" } : Jvm.MethodName) object_method_1_code (1 : Nat) (Option.none : Option Jvm.ClassFile.FieldType)) ∈ lw_all := lw_g (lw_at lw_m1 28 rfl) rfl

theorem q125 : (Jvm.Cond.initialized "java/lang/System") ∈ lw_all := lw_g (lw_at lw_m1 10 rfl) rfl
theorem q523 : (Jvm.Cond.static ({ cls := "java/lang/System", name := "arraycopy", desc := "(Ljava/lang/Object;ILjava/lang/Object;II)V" } : Jvm.MethodName)) ∈ lw_all := lw_g (lw_at lw_m2 168 rfl) rfl
theorem q524 : (Jvm.Cond.native ({ cls := "java/lang/System", name := "arraycopy", desc := "(Ljava/lang/Object;ILjava/lang/Object;II)V" } : Jvm.MethodName)) ∈ lw_all := lw_g (lw_at lw_m2 169 rfl) rfl

theorem q175 : (Jvm.Cond.arrayClass Jvm.ClassFile.FieldType.int) ∈ lw_all := lw_g (lw_at lw_m1 60 rfl) rfl
theorem q176 : (Jvm.Cond.arrayOver (Jvm.ClassFile.FieldType.object "TollOnVowels$Road")) ∈ lw_tbl := lw_at lw_m1 61 rfl
theorem q389 : (Jvm.Cond.arrayClass Jvm.ClassFile.FieldType.long) ∈ lw_all := lw_g (lw_at lw_m2 34 rfl) rfl
theorem q529 : (Jvm.Cond.arrayClass Jvm.ClassFile.FieldType.byte) ∈ lw_all := lw_g (lw_at lw_m2 174 rfl) rfl
theorem q1276 : (Jvm.Cond.arrayClass Jvm.ClassFile.FieldType.boolean) ∈ lw_all := lw_g (lw_at lw_m5 201 rfl) rfl

abbrev cL_law : ByteArray := code

