/-! STRING CONSTANTS: indexOf of a character, through the JDK's own methods -/
section JS
variable {α : Type} {G : JG} {cc : ByteArray} {y : MethodName} {nL D : Nat} {ret : Option FieldType} {I : PM → Prop} {fin : α → PM → State → Prop} {M : PM} {pc : Nat} {L : List (Option Value)} {S S0 : List Value} {o : Option (α × PM)}
theorem J_scomp (hl : Cond.fieldLink y.cls 38 "java/lang/String" "COMPACT_STRINGS" "Z" ∈ lw_all) (d : decode cc pc = .ok (.getstatic 38, 3)) (k : JJ G cc y nL D ret I fin M (pc + 3) L (.int 1 :: S) o) : JJ G cc y nL D ret I fin M pc L S o :=
  J_lift (fun p l e R s m args below meth c E M0 _ cx H locs ls k n Q _ _ hl0 hS _ _ w => va_gets cx.1 cx.2.1 cx.2.2.2.2.2.2.2.1.2.1 hS cx.2.2.2.1 (cx.2.2.2.2.1 _ hl) (fun _ h => h) d (w ls hl0)) k
theorem J_scoder {i : Nat} (hi : i < 9) (hl : Cond.fieldLink y.cls 15 "java/lang/String" "coder" "B" ∈ lw_all) (d : decode cc pc = .ok (.getfield 15, 3)) (k : JJ G cc y nL D ret I fin M (pc + 3) L (.int 0 :: S) o) : JJ G cc y nL D ret I fin M pc L (.ref (1 + i) :: S) o :=
  J_lift (fun p l e R s m args below meth c E M0 _ cx H locs ls k n Q _ _ hl0 hS _ _ w => vk_getf cx.1 cx.2.1 (cx.2.2.2.2.2.2.2.1.1.1 i hi).2.1 hS cx.2.2.2.1 (cx.2.2.2.2.1 _ hl) (fun _ h => h) d (w ls hl0)) k
theorem J_svalue {i : Nat} (hi : i < 9) (hl : Cond.fieldLink y.cls 9 "java/lang/String" "value" "[B" ∈ lw_all) (d : decode cc pc = .ok (.getfield 9, 3)) (k : JJ G cc y nL D ret I fin M (pc + 3) L (.ref (10 + i) :: S) o) : JJ G cc y nL D ret I fin M pc L (.ref (1 + i) :: S) o :=
  J_lift (fun p l e R s m args below meth c E M0 _ cx H locs ls k n Q _ _ hl0 hS _ _ w => vk_getf cx.1 cx.2.1 (cx.2.2.2.2.2.2.2.1.1.1 i hi).2.2.1 hS cx.2.2.2.1 (cx.2.2.2.2.1 _ hl) (fun _ h => h) d (w ls hl0)) k
theorem J_slen {i : Nat} (hi : i < 9) (d : decode cc pc = .ok (.arraylength, 1)) (k : JJ G cc y nL D ret I fin M (pc + 1) L (.int (Int32.ofNat (strLen.getD i 0)) :: S) o) : JJ G cc y nL D ret I fin M pc L (.ref (10 + i) :: S) o :=
  J_lift (fun p l e R s m args below meth c E M0 _ cx H locs ls k n Q _ _ hl0 hS _ _ w => va_tlen cx.1 cx.2.1 (cx.2.2.2.2.2.2.2.1.1.1 i hi).2.2.2 hS rfl d (w ls hl0)) k
theorem J_sbald {i : Nat} (hi : i < 9) {j : Int32} (hj : vp_in j (strLen.getD i 0)) (d : decode cc pc = .ok (.baload, 1)) (k : JJ G cc y nL D ret I fin M (pc + 1) L (.int ((strByt.getD i []).getD (ix j) 0) :: S) o) : JJ G cc y nL D ret I fin M pc L (.int j :: .ref (10 + i) :: S) o :=
  J_lift (fun p l e R s m args below meth c E M0 _ cx H locs ls k n Q _ _ hl0 hS _ _ w => va_tb cx.1 cx.2.1 (cx.2.2.2.2.2.2.2.1.1.1 i hi).2.2.2 hS hj rfl d (w ls hl0)) k
variable {β : Type} {index : Nat} {y' : MethodName} {cc' : ByteArray} {nL' D' : Nat} {ret' : Option FieldType} {rv : β → Option Value} {vs : List Value} {oc : Option (β × PM)} {f : β → PM → Option (α × PM)}
/-- invokevirtual on a String constant -/
theorem J_callVs {n i : Nat} (hi : i < 9) (hC : ∀ l, Ctr l I y' cc' nL' ret' D' rv (.ref (1 + i) :: vs) M oc) (hw : GoodIn lw_all (wsV y.cls index "java/lang/String" y' (ws_ y' cc' nL' ret'))) (hd : y'.cls = "java/lang/String" ∧ y'.cls ≠ "java/lang/invoke/MethodHandle" ∧ y'.cls ≠ "java/lang/invoke/VarHandle" ∧ (parseMethodDescriptor y'.desc).map (fun d => d.parameters.length) = some n) (hn : vs.length = n) (hD : D' + 1 ≤ D) (hL : nL' ≤ 20)
    (hS0 : S0 = vs.reverse ++ .ref (1 + i) :: S) (hS8 : (S.map fun v => v.category).sum ≤ 8) (d : decode cc pc = .ok (.invokevirtual index, 3)) (k : ∀ r1 M1, JJ G cc y nL D ret I fin M1 (pc + 3) L ((rv r1).toList ++ S) (f r1 M1)) : JJ G cc y nL D ret I fin M pc L S0 (bd oc f) := by
  refine J_callX hC (fun p l e R s m args below meth c E M0 cx hi0 H locs ls k0 n0 r1 M1 l1 l2 l3 l4 hl hS hR hM hbl hpre => ?_) k
  refine va_runV (As := vs.map (tr E.ad)) (b := E.ad (1 + i)) ⟨cx.1, cx.2.1, cx.2.2.1, cx.2.2.2.1, cx.2.2.2.2.1⟩ hM (cwV n cx.2.2.2.2.1 hw rfl rfl rfl hd (call_room (s := 0) hD hL cx.2.2.2.2.2.2.2.2.2.1 cx.2.2.2.2.2.2.2.2.2.2.1)) ⟨hbl, ?_, hpre⟩ rfl (by rw [List.length_map]; exact hn) hl.1 ?_ (lv_room (by rw [tr_cats]; exact hS8)) d ⟨l3, l4⟩
  · exact vk_recv (adK := fun i => E.ad (1 + i)) cx.2.2.2.2.2.2.2.1.1 hi hS
  · show S0.map (tr E.ad) = _
    rw [hS0, List.map_append, List.map_reverse]
    rfl
end JS
-- WALKS
theorem nmS (y : MethodName) (h : y.cls = "java/lang/String") : y.cls ≠ "java/lang/invoke/MethodHandle" ∧ y.cls ≠ "java/lang/invoke/VarHandle" := by
  rw [h]; decide +kernel
def s_coder (M : PM) : Option (Int32 × PM) := some (0, M)
theorem C_s_coder (l : Launch) (i : Nat) (hi : i < 9) (M : PM) : Ctr l Sh yJ1_coder cJ1_coder 1 (some .byte) 1 rvI [.ref (1 + i)] M (s_coder M) := Ctr.of (by decide +kernel) (Nat.le_of_ble_eq_true rfl) (fun G => by
  unfold s_coder
  refine J_scomp (pc := 0) q437 dJ1_coder_0 ?_
  refine J_if_eq (pc := 3) 13 dJ1_coder_3 rfl (o1 := some (0, M)) (o2 := some (0, M)) (fun h => absurd h (by decide)) (fun _ => rfl) (fun h => absurd h (by decide)) (fun _ => ?_)
  refine J_aload_n (pc := 6) dJ1_coder_6 rfl ?_
  refine J_scoder (pc := 7) hi q1705 dJ1_coder_7 ?_
  refine J_goto (pc := 10) 14 dJ1_coder_10 rfl ?_
  exact J_zretT (pc := 14) rfl dJ1_coder_14)
def s_isLatin1 (M : PM) : Option (Int32 × PM) := some (1, M)
theorem C_s_isLatin1 (l : Launch) (i : Nat) (hi : i < 9) (M : PM) : Ctr l Sh yJ1_isLatin1 cJ1_isLatin1 1 (some .boolean) 1 rvI [.ref (1 + i)] M (s_isLatin1 M) := Ctr.of (by decide +kernel) (Nat.le_of_ble_eq_true rfl) (fun G => by
  unfold s_isLatin1
  refine J_scomp (pc := 0) q437 dJ1_isLatin1_0 ?_
  refine J_if_eq (pc := 3) 17 dJ1_isLatin1_3 rfl (o1 := some (1, M)) (o2 := some (1, M)) (fun h => absurd h (by decide)) (fun _ => rfl) (fun h => absurd h (by decide)) (fun _ => ?_)
  refine J_aload_n (pc := 6) dJ1_isLatin1_6 rfl ?_
  refine J_scoder (pc := 7) hi q1705 dJ1_isLatin1_7 ?_
  refine J_if_ne (pc := 10) 17 dJ1_isLatin1_10 rfl (o1 := some (1, M)) (o2 := some (1, M)) (fun h => absurd rfl h) (fun _ => rfl) (fun h => absurd rfl h) (fun _ => ?_)
  refine J_iconst (pc := 13) 1 dJ1_isLatin1_13 (by decide) ?_
  refine J_goto (pc := 14) 18 dJ1_isLatin1_14 rfl ?_
  exact J_zret (pc := 18) rfl dJ1_isLatin1_18)
def s_length (i : Nat) (M : PM) : Option (Int32 × PM) := bd (s_coder M) fun v M1 => some (Int32.ofNat (strLen.getD i 0) >>> (v &&& 31), M1)
theorem C_s_length (l : Launch) (i : Nat) (hi : i < 9) (M : PM) : Ctr l Sh yJ1_length cJ1_length 1 (some .int) 2 rvI [.ref (1 + i)] M (s_length i M) := Ctr.of (by decide +kernel) (Nat.le_of_ble_eq_true rfl) (fun G => by
  unfold s_length
  refine J_aload_n (pc := 0) dJ1_length_0 rfl ?_
  refine J_svalue (pc := 1) hi q1706 dJ1_length_1 ?_
  refine J_slen (pc := 4) hi dJ1_length_4 ?_
  refine J_aload_n (pc := 5) dJ1_length_5 rfl ?_
  refine J_callVs (pc := 6) (n := 0) (vs := []) hi (fun l => C_s_coder l i hi M) (lw_V q443 q444 q445 q120 q446) ⟨rfl, by decide +kernel⟩ rfl (by omega) (by decide) rfl (Nat.le_of_ble_eq_true rfl) dJ1_length_6 (fun v M1 => ?_)
  refine J_ishr (pc := 9) dJ1_length_9 ?_
  exact J_iret (pc := 10) dJ1_length_10)
def s_canEncode (c : Int32) (M : PM) : Option (Int32 × PM) := if c < 0 then some (0, M) else if 255 < c then some (0, M) else some (1, M)
theorem C_s_canEncode (l : Launch) (c : Int32) (M : PM) : Ctr l Sh yJ2_canEncode cJ2_canEncode 1 (some .boolean) 1 rvI [.int c] M (s_canEncode c M) := Ctr.of (by decide +kernel) (Nat.le_of_ble_eq_true rfl) (fun G => by
  unfold s_canEncode
  refine J_iload_n (pc := 0) dJ2_canEncode_0 rfl ?_
  refine J_if_lt (pc := 1) 15 dJ2_canEncode_1 rfl (fun h => if_pos h) (fun h => if_neg h) (fun _ => ?_) (fun _ => ?_)
  · refine J_iconst (pc := 15) 0 dJ2_canEncode_15 (by decide) ?_
    exact J_zret (pc := 16) rfl dJ2_canEncode_16
  · refine J_iload_n (pc := 4) dJ2_canEncode_4 rfl ?_
    refine J_sipush (pc := 5) 255 dJ2_canEncode_5 (by decide) ?_
    refine J_icmp_gt (pc := 8) 15 dJ2_canEncode_8 rfl (fun h => if_pos h) (fun h => if_neg h) (fun _ => ?_) (fun _ => ?_)
    · refine J_iconst (pc := 15) 0 dJ2_canEncode_15 (by decide) ?_
      exact J_zret (pc := 16) rfl dJ2_canEncode_16
    · refine J_iconst (pc := 11) 1 dJ2_canEncode_11 (by decide) ?_
      refine J_goto (pc := 12) 16 dJ2_canEncode_12 rfl ?_
      exact J_zret (pc := 16) rfl dJ2_canEncode_16)
/-- the loop of indexOfChar -/
def s_ioc_L (i : Nat) (b to : Int32) : Nat → Int32 → PM → Option (Int32 × PM)
  | 0, _, _ => none
  | n + 1, j, M => if to ≤ j then some ((-1), M) else ck j (strLen.getD i 0) <| if (strByt.getD i []).getD (ix j) 0 = b then some (j, M) else lt (j + 1) fun j => s_ioc_L i b to n j M
def s_ioc (i : Nat) (c fr to : Int32) (M : PM) : Option (Int32 × PM) := s_ioc_L i ((Int32.toInt8 c).toInt32) to FU fr M
theorem t_s_ioc_L (G : JG) (i : Nat) (hi : i < 9) (c fr b to : Int32) : ∀ (n : Nat) (j : Int32) (M : PM), JJ G cJ2_indexOfChar yJ2_indexOfChar 6 1 (some .int) Sh (finR G Sh rvI) M 7 [some (.ref (10 + i)), none, none, some (.int to), some (.int b), some (.int j)] [] (s_ioc_L i b to n j M) := by
  intro n
  induction n with
  | zero =>
    intro j M
    exact J_none
  | succ n ih =>
    intro j M
    rw [s_ioc_L]
    refine J_iload (pc := 7) dJ2_indexOfChar_7 rfl ?_
    refine J_iload_n (pc := 9) dJ2_indexOfChar_9 rfl ?_
    refine J_icmp_ge (pc := 10) 31 dJ2_indexOfChar_10 rfl (fun h => if_pos h) (fun h => if_neg h) (fun _ => ?_) (fun _ => ?_)
    · refine J_iconst (pc := 31) (-1) dJ2_indexOfChar_31 (by decide) ?_
      exact J_iret (pc := 32) dJ2_indexOfChar_32
    · refine J_aload_n (pc := 13) dJ2_indexOfChar_13 rfl ?_
      refine J_iload (pc := 14) dJ2_indexOfChar_14 rfl ?_
      refine J_ck (fun h1 => ?_)
      refine J_sbald (pc := 16) hi h1 dJ2_indexOfChar_16 ?_
      refine J_iload (pc := 17) dJ2_indexOfChar_17 rfl ?_
      refine J_icmp_ne (pc := 19) 25 dJ2_indexOfChar_19 rfl (fun h => if_neg h) (fun h => if_pos h) (fun _ => ?_) (fun _ => ?_)
      · refine J_iincL (pc := 25) (n := 1) (by decide) dJ2_indexOfChar_25 rfl (by decide) (fun v => ?_)
        refine J_goto (pc := 28) 7 dJ2_indexOfChar_28 rfl ?_
        exact J_sub (A := [some (.ref (10 + i)), none, none, some (.int to), some (.int b), some (.int v)]) ⟨rfl, rfl, rfl, rfl, trivial⟩ (ih v M)
      · refine J_iload (pc := 22) dJ2_indexOfChar_22 rfl ?_
        exact J_iret (pc := 24) dJ2_indexOfChar_24
theorem C_s_ioc (l : Launch) (i : Nat) (hi : i < 9) (c fr to : Int32) (M : PM) : Ctr l Sh yJ2_indexOfChar cJ2_indexOfChar 6 (some .int) 1 rvI [.ref (10 + i), .int c, .int fr, .int to] M (s_ioc i c fr to M) := Ctr.of (by decide +kernel) (Nat.le_of_ble_eq_true rfl) (fun G => by
  unfold s_ioc
  refine J_iload_n (pc := 0) dJ2_indexOfChar_0 rfl ?_
  refine J_i2b (pc := 1) dJ2_indexOfChar_1 ?_
  refine J_istore (pc := 2) dJ2_indexOfChar_2 (by decide) ?_
  refine J_iload_n (pc := 4) dJ2_indexOfChar_4 rfl ?_
  refine J_istore (pc := 5) dJ2_indexOfChar_5 (by decide) ?_
  exact J_sub (A := [some (.ref (10 + i)), none, none, some (.int to), some (.int ((Int32.toInt8 c).toInt32)), some (.int fr)]) ⟨rfl, rfl, rfl, rfl, trivial⟩ (t_s_ioc_L G i hi c fr _ to FU fr M))
def s_lio (i : Nat) (c fr to : Int32) (M : PM) : Option (Int32 × PM) := bd (s_canEncode c M) fun v M1 => if v = 0 then some ((-1), M1) else if imin to (Int32.ofNat (strLen.getD i 0)) ≤ imax fr 0 then some ((-1), M1) else bd (s_ioc i c (imax fr 0) (imin to (Int32.ofNat (strLen.getD i 0))) M1) fun w M2 => some (w, M2)
theorem C_s_lio (l : Launch) (i : Nat) (hi : i < 9) (c fr to : Int32) (M : PM) : Ctr l Sh yJ2_indexOf cJ2_indexOf 4 (some .int) 2 rvI [.ref (10 + i), .int c, .int fr, .int to] M (s_lio i c fr to M) := Ctr.of (by decide +kernel) (Nat.le_of_ble_eq_true rfl) (fun G => by
  unfold s_lio
  refine J_iload_n (pc := 0) dJ2_indexOf_0 rfl ?_
  refine J_callS (pc := 1) (n := 1) (vs := [.int c]) (fun l => C_s_canEncode l c M) (lw_S q450 q451 q121 q452) (by decide +kernel) rfl (by omega) (by decide) rfl (Nat.le_of_ble_eq_true rfl) dJ2_indexOf_1 (fun v M1 => ?_)
  refine J_if_ne (pc := 4) 9 dJ2_indexOf_4 rfl (fun h => if_neg h) (fun h => if_pos h) (fun _ => ?_) (fun _ => ?_)
  · refine J_iload_n (pc := 9) dJ2_indexOf_9 rfl ?_
    refine J_iconst (pc := 10) 0 dJ2_indexOf_10 (by decide) ?_
    refine J_max (pc := 11) (by omega) q453 q454 q119 q455 (Nat.le_of_ble_eq_true rfl) dJ2_indexOf_11 ?_
    refine J_istore_n (pc := 14) dJ2_indexOf_14 (by decide) ?_
    refine J_iload_n (pc := 15) dJ2_indexOf_15 rfl ?_
    refine J_aload_n (pc := 16) dJ2_indexOf_16 rfl ?_
    refine J_slen (pc := 17) hi dJ2_indexOf_17 ?_
    refine J_min (pc := 18) (by omega) q456 q410 q119 q411 (Nat.le_of_ble_eq_true rfl) dJ2_indexOf_18 ?_
    refine J_istore_n (pc := 21) dJ2_indexOf_21 (by decide) ?_
    refine J_iload_n (pc := 22) dJ2_indexOf_22 rfl ?_
    refine J_iload_n (pc := 23) dJ2_indexOf_23 rfl ?_
    refine J_icmp_lt (pc := 24) 29 dJ2_indexOf_24 rfl (fun h => if_neg (Int32.not_le.mpr h)) (fun h => if_pos (Int32.not_lt.mp h)) (fun _ => ?_) (fun _ => ?_)
    · refine J_aload_n (pc := 29) dJ2_indexOf_29 rfl ?_
      refine J_iload_n (pc := 30) dJ2_indexOf_30 rfl ?_
      refine J_iload_n (pc := 31) dJ2_indexOf_31 rfl ?_
      refine J_iload_n (pc := 32) dJ2_indexOf_32 rfl ?_
      refine J_callS (pc := 33) (n := 4) (vs := [.ref (10 + i), .int c, .int (imax fr 0), .int (imin to (Int32.ofNat (strLen.getD i 0)))]) (fun l => C_s_ioc l i hi c _ _ M1) (lw_S q457 q458 q121 q459) (by decide +kernel) rfl (by omega) (by decide) rfl (Nat.le_of_ble_eq_true rfl) dJ2_indexOf_33 (fun w M2 => ?_)
      exact J_iret (pc := 36) dJ2_indexOf_36
    · refine J_iconst (pc := 27) (-1) dJ2_indexOf_27 (by decide) ?_
      exact J_iret (pc := 28) dJ2_indexOf_28
  · refine J_iconst (pc := 7) (-1) dJ2_indexOf_7 (by decide) ?_
    exact J_iret (pc := 8) dJ2_indexOf_8)
def s_io2 (i : Nat) (c fr : Int32) (M : PM) : Option (Int32 × PM) := bd (s_isLatin1 M) fun v M1 => if v = 0 then none else bd (s_length i M1) fun w M2 => bd (s_lio i c fr w M2) fun z M3 => some (z, M3)
theorem C_s_io2 (l : Launch) (i : Nat) (hi : i < 9) (c fr : Int32) (M : PM) : Ctr l Sh yJ1_indexOf_2 cJ1_indexOf_2 3 (some .int) 3 rvI [.ref (1 + i), .int c, .int fr] M (s_io2 i c fr M) := Ctr.of (by decide +kernel) (Nat.le_of_ble_eq_true rfl) (fun G => by
  unfold s_io2
  refine J_aload_n (pc := 0) dJ1_indexOf_2_0 rfl ?_
  refine J_callVs (pc := 1) (n := 0) (vs := []) hi (fun l => C_s_isLatin1 l i hi M) (lw_V q433 q434 q435 q120 q436) ⟨rfl, by decide +kernel⟩ rfl (by omega) (by decide) rfl (Nat.le_of_ble_eq_true rfl) dJ1_indexOf_2_1 (fun v M1 => ?_)
  refine J_if_eq (pc := 4) 23 dJ1_indexOf_2_4 rfl (fun h => if_pos h) (fun h => if_neg h) (fun _ => J_none) (fun _ => ?_)
  refine J_aload_n (pc := 7) dJ1_indexOf_2_7 rfl ?_
  refine J_svalue (pc := 8) hi q1706 dJ1_indexOf_2_8 ?_
  refine J_iload_n (pc := 11) dJ1_indexOf_2_11 rfl ?_
  refine J_iload_n (pc := 12) dJ1_indexOf_2_12 rfl ?_
  refine J_aload_n (pc := 13) dJ1_indexOf_2_13 rfl ?_
  refine J_callVs (pc := 14) (n := 0) (vs := []) hi (fun l => C_s_length l i hi M1) (lw_V q439 q440 q441 q120 q442) ⟨rfl, by decide +kernel⟩ rfl (by omega) (by decide) rfl (Nat.le_of_ble_eq_true rfl) dJ1_indexOf_2_14 (fun w M2 => ?_)
  refine J_callS (pc := 17) (n := 4) (vs := [.ref (10 + i), .int c, .int fr, .int w]) (fun l => C_s_lio l i hi c fr w M2) (lw_S q447 q448 q121 q449) (by decide +kernel) rfl (by omega) (by decide) rfl (Nat.le_of_ble_eq_true rfl) dJ1_indexOf_2_17 (fun z M3 => ?_)
  refine J_goto (pc := 20) 36 dJ1_indexOf_2_20 rfl ?_
  exact J_iret (pc := 36) dJ1_indexOf_2_36)
/-- text.indexOf(c): si is the text's id, 1 + its place -/
def s_indexOf (si : Nat) (c : Int32) (M : PM) : Option (Int32 × PM) := if 1 ≤ si ∧ si < 10 then bd (s_io2 (si - 1) c 0 M) fun z M1 => some (z, M1) else none
theorem C_s_indexOf (l : Launch) (i : Nat) (hi : i < 9) (c : Int32) (M : PM) : Ctr l Sh yJ1_indexOf cJ1_indexOf 2 (some .int) 4 rvI [.ref (1 + i), .int c] M (s_indexOf (1 + i) c M) := Ctr.of (by decide +kernel) (Nat.le_of_ble_eq_true rfl) (fun G => by
  unfold s_indexOf
  rw [if_pos (by omega), Nat.add_sub_cancel_left]
  refine J_aload_n (pc := 0) dJ1_indexOf_0 rfl ?_
  refine J_iload_n (pc := 1) dJ1_indexOf_1 rfl ?_
  refine J_iconst (pc := 2) 0 dJ1_indexOf_2 (by decide) ?_
  refine J_callVs (pc := 3) (n := 2) (vs := [.int c, .int 0]) hi (fun l => C_s_io2 l i hi c 0 M) (lw_V q429 q430 q431 q120 q432) ⟨rfl, by decide +kernel⟩ rfl (by omega) (by decide) rfl (Nat.le_of_ble_eq_true rfl) dJ1_indexOf_3 (fun z M1 => ?_)
  exact J_iret (pc := 6) dJ1_indexOf_6)
theorem J_indexOf {α : Type} {G : JG} {cc : ByteArray} {y : MethodName} {nL D : Nat} {ret : Option FieldType} {fin : α → PM → State → Prop} {M : PM} {pc : Nat} {L : List (Option Value)} {S : List Value} {f : Int32 → PM → Option (α × PM)} {index : Nat} (i : Nat) {c : Int32} (hD : 5 ≤ D) (hl : Cond.methodLink y.cls index yJ1_indexOf ∈ lw_all) (hS8 : (S.map fun v => v.category).sum ≤ 8) (d : decode cc pc = .ok (.invokevirtual index, 3)) (k : ∀ v M1, JJ G cc y nL D ret Sh fin M1 (pc + 3) L (.int v :: S) (f v M1)) : JJ G cc y nL D ret Sh fin M pc L (.int c :: .ref i :: S) (bd (s_indexOf i c M) f) := by
  by_cases hi : 1 ≤ i ∧ i < 10
  · obtain ⟨j, rfl⟩ : ∃ j, i = 1 + j := ⟨i - 1, by omega⟩
    exact J_callVs (n := 1) (vs := [.int c]) (by omega) (fun l => C_s_indexOf l j (by omega) c M) (lw_V hl q426 q427 q120 q428) ⟨rfl, by decide +kernel⟩ rfl (by omega) (by decide) rfl hS8 d k
  · have : s_indexOf i c M = none := if_neg hi
    rw [this]
    exact J_none
