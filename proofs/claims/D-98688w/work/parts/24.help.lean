set_option maxRecDepth 100000
theorem nmh_X0_word : yX0_word.cls ≠ "java/lang/invoke/MethodHandle" ∧ yX0_word.cls ≠ "java/lang/invoke/VarHandle" ∧ (parseMethodDescriptor yX0_word.desc).map (fun d => d.parameters.length) = some 4 := by decide +kernel
abbrev T_lw_word (G : JG) (M : PM) (pc : Nat) (L : List (Option Value)) (S : List Value) (o : Option (Int32 × PM)) : Prop := JJ G cX0_word yX0_word 5 9 (some .int) Sh (finR G Sh rvI) M pc L S o
def lw_word (p1 : Int32) (p2 : Int32) (M : PM) : Option (Int32 × PM) :=
    bd (x_word p1 p2 M) <| oel (fun M1 => some (1, M1)) fun v1 M1 =>
    ck 0 1 <|
    lt (M1.sl 104 (ix 0) (Int32.toInt64 v1)) fun M2 =>
    some (0, M2)

set_option maxHeartbeats 4000000 in
theorem t_lw_word (G : JG) (hl9 : (gl G).stackTraces = false) (p1 : Int32) (p2 : Int32) (M : PM) : T_lw_word G  M 0 (ent [.ref 20, .int p1, .int p2, .ref 104] 5) [] (lw_word p1 p2 M) := by
  unfold lw_word
  refine J_aload_n (pc := 0) dX0_word_0 rfl ?_
  refine J_iconst (pc := 1) 0 dX0_word_1 (by decide) ?_
  refine J_aload_n (pc := 2) dX0_word_2 rfl ?_
  refine J_iload_n (pc := 3) dX0_word_3 rfl ?_
  refine J_iload_n (pc := 4) dX0_word_4 rfl ?_
  refine J_callVX (f := oel _ _) (pc := 5) (n := 2) (b := 20) (vs := [.int p1, .int p2]) (ci := 0) hl9 (fun l hl => C_x_word l hl p1 p2 M) (lw_V q1006 q1007 q1008 q116 q1009) nmv_X1_word rfl (by omega) (by decide) rfl (fun h => sh_k1 h 0 rfl) rfl (Nat.le_of_ble_eq_true rfl) dX0_word_5 (et_2 rfl (by decide) (by decide)) (by decide) q1005 (stx_astore dX0_word_13 (by decide) rfl (fun k v h h2 => ?_)) (fun M1 => ?_) (fun v1 M1 => ?_)
  · obtain rfl : k = 3 := Nat.succ.inj h
    have h3 : some (some (Value.ref 104)) = some (some v) := h2
    cases h3
    decide
  · refine J_iconst (pc := 15) 1 dX0_word_15 (by decide) ?_
    exact J_iret (pc := 16) dX0_word_16
  refine J_i2l (pc := 8) dX0_word_8 ?_
  refine J_ck (fun h1 => ?_)
  refine J_last (pc := 9) (a := 104) (fun h => sh_a h 84 rfl h1) (fun h => Sh_sl h) dX0_word_9 ?_
  refine J_ltM (fun M2 => ?_)
  refine J_goto (pc := 10) 17 dX0_word_10 rfl ?_
  refine J_iconst (pc := 17) 0 dX0_word_17 (by decide) ?_
  exact J_iret (pc := 18) dX0_word_18

theorem C_lw_word (l : Launch) (hl9 : l.stackTraces = false) (p1 : Int32) (p2 : Int32) (M : PM) : CtrH l Sh yX0_word cX0_word 5 (some .int) [(0, 10, 13, 13)] 9 rvI [.ref 20, .int p1, .int p2, .ref 104] M (lw_word p1 p2 M) := CtrH.of hl9 (by decide +kernel) (Nat.le_of_ble_eq_true rfl) (fun G hl9 => t_lw_word G hl9 p1 p2 M) (et_2 rfl (by decide) (by decide))

theorem nmh_X0_traveller : yX0_traveller.cls ≠ "java/lang/invoke/MethodHandle" ∧ yX0_traveller.cls ≠ "java/lang/invoke/VarHandle" ∧ (parseMethodDescriptor yX0_traveller.desc).map (fun d => d.parameters.length) = some 4 := by decide +kernel
abbrev T_lw_traveller (G : JG) (M : PM) (pc : Nat) (L : List (Option Value)) (S : List Value) (o : Option (Int32 × PM)) : Prop := JJ G cX0_traveller yX0_traveller 5 8 (some .int) Sh (finR G Sh rvI) M pc L S o
def lw_traveller (p1 : Int32) (p2 : Int32) (M : PM) : Option (Int32 × PM) :=
    bd (x_traveller p1 p2 M) <| oel (fun M1 => some (1, M1)) fun v1 M1 =>
    ck 0 1 <|
    lt (M1.sl 104 (ix 0) (Int32.toInt64 v1)) fun M2 =>
    some (0, M2)

set_option maxHeartbeats 4000000 in
theorem t_lw_traveller (G : JG) (hl9 : (gl G).stackTraces = false) (p1 : Int32) (p2 : Int32) (M : PM) : T_lw_traveller G  M 0 (ent [.ref 20, .int p1, .int p2, .ref 104] 5) [] (lw_traveller p1 p2 M) := by
  unfold lw_traveller
  refine J_aload_n (pc := 0) dX0_traveller_0 rfl ?_
  refine J_iconst (pc := 1) 0 dX0_traveller_1 (by decide) ?_
  refine J_aload_n (pc := 2) dX0_traveller_2 rfl ?_
  refine J_iload_n (pc := 3) dX0_traveller_3 rfl ?_
  refine J_iload_n (pc := 4) dX0_traveller_4 rfl ?_
  refine J_callVX (f := oel _ _) (pc := 5) (n := 2) (b := 20) (vs := [.int p1, .int p2]) (ci := 0) hl9 (fun l hl => C_x_traveller l hl p1 p2 M) (lw_V q1075 q1076 q1077 q116 q1078) nmv_X1_traveller rfl (by omega) (by decide) rfl (fun h => sh_k1 h 0 rfl) rfl (Nat.le_of_ble_eq_true rfl) dX0_traveller_5 (et_2 rfl (by decide) (by decide)) (by decide) q1005 (stx_astore dX0_traveller_13 (by decide) rfl (fun k v h h2 => ?_)) (fun M1 => ?_) (fun v1 M1 => ?_)
  · obtain rfl : k = 3 := Nat.succ.inj h
    have h3 : some (some (Value.ref 104)) = some (some v) := h2
    cases h3
    decide
  · refine J_iconst (pc := 15) 1 dX0_traveller_15 (by decide) ?_
    exact J_iret (pc := 16) dX0_traveller_16
  refine J_i2l (pc := 8) dX0_traveller_8 ?_
  refine J_ck (fun h1 => ?_)
  refine J_last (pc := 9) (a := 104) (fun h => sh_a h 84 rfl h1) (fun h => Sh_sl h) dX0_traveller_9 ?_
  refine J_ltM (fun M2 => ?_)
  refine J_goto (pc := 10) 17 dX0_traveller_10 rfl ?_
  refine J_iconst (pc := 17) 0 dX0_traveller_17 (by decide) ?_
  exact J_iret (pc := 18) dX0_traveller_18

theorem C_lw_traveller (l : Launch) (hl9 : l.stackTraces = false) (p1 : Int32) (p2 : Int32) (M : PM) : CtrH l Sh yX0_traveller cX0_traveller 5 (some .int) [(0, 10, 13, 13)] 8 rvI [.ref 20, .int p1, .int p2, .ref 104] M (lw_traveller p1 p2 M) := CtrH.of hl9 (by decide +kernel) (Nat.le_of_ble_eq_true rfl) (fun G hl9 => t_lw_traveller G hl9 p1 p2 M) (et_2 rfl (by decide) (by decide))

theorem nmh_X0_errand : yX0_errand.cls ≠ "java/lang/invoke/MethodHandle" ∧ yX0_errand.cls ≠ "java/lang/invoke/VarHandle" ∧ (parseMethodDescriptor yX0_errand.desc).map (fun d => d.parameters.length) = some 4 := by decide +kernel
abbrev T_lw_errand (G : JG) (M : PM) (pc : Nat) (L : List (Option Value)) (S : List Value) (o : Option (Int32 × PM)) : Prop := JJ G cX0_errand yX0_errand 5 8 (some .int) Sh (finR G Sh rvI) M pc L S o
def lw_errand (p1 : Int32) (p2 : Int32) (M : PM) : Option (Int32 × PM) :=
    bd (x_errand p1 p2 M) <| oel (fun M1 => some (1, M1)) fun v1 M1 =>
    ck 0 1 <|
    lt (M1.sl 104 (ix 0) (Int32.toInt64 v1)) fun M2 =>
    some (0, M2)

set_option maxHeartbeats 4000000 in
theorem t_lw_errand (G : JG) (hl9 : (gl G).stackTraces = false) (p1 : Int32) (p2 : Int32) (M : PM) : T_lw_errand G  M 0 (ent [.ref 20, .int p1, .int p2, .ref 104] 5) [] (lw_errand p1 p2 M) := by
  unfold lw_errand
  refine J_aload_n (pc := 0) dX0_errand_0 rfl ?_
  refine J_iconst (pc := 1) 0 dX0_errand_1 (by decide) ?_
  refine J_aload_n (pc := 2) dX0_errand_2 rfl ?_
  refine J_iload_n (pc := 3) dX0_errand_3 rfl ?_
  refine J_iload_n (pc := 4) dX0_errand_4 rfl ?_
  refine J_callVX (f := oel _ _) (pc := 5) (n := 2) (b := 20) (vs := [.int p1, .int p2]) (ci := 0) hl9 (fun l hl => C_x_errand l hl p1 p2 M) (lw_V q1082 q1083 q1084 q116 q1085) nmv_X1_errand rfl (by omega) (by decide) rfl (fun h => sh_k1 h 0 rfl) rfl (Nat.le_of_ble_eq_true rfl) dX0_errand_5 (et_2 rfl (by decide) (by decide)) (by decide) q1005 (stx_astore dX0_errand_13 (by decide) rfl (fun k v h h2 => ?_)) (fun M1 => ?_) (fun v1 M1 => ?_)
  · obtain rfl : k = 3 := Nat.succ.inj h
    have h3 : some (some (Value.ref 104)) = some (some v) := h2
    cases h3
    decide
  · refine J_iconst (pc := 15) 1 dX0_errand_15 (by decide) ?_
    exact J_iret (pc := 16) dX0_errand_16
  refine J_i2l (pc := 8) dX0_errand_8 ?_
  refine J_ck (fun h1 => ?_)
  refine J_last (pc := 9) (a := 104) (fun h => sh_a h 84 rfl h1) (fun h => Sh_sl h) dX0_errand_9 ?_
  refine J_ltM (fun M2 => ?_)
  refine J_goto (pc := 10) 17 dX0_errand_10 rfl ?_
  refine J_iconst (pc := 17) 0 dX0_errand_17 (by decide) ?_
  exact J_iret (pc := 18) dX0_errand_18

theorem C_lw_errand (l : Launch) (hl9 : l.stackTraces = false) (p1 : Int32) (p2 : Int32) (M : PM) : CtrH l Sh yX0_errand cX0_errand 5 (some .int) [(0, 10, 13, 13)] 8 rvI [.ref 20, .int p1, .int p2, .ref 104] M (lw_errand p1 p2 M) := CtrH.of hl9 (by decide +kernel) (Nat.le_of_ble_eq_true rfl) (fun G hl9 => t_lw_errand G hl9 p1 p2 M) (et_2 rfl (by decide) (by decide))

theorem nmh_X0_book : yX0_book.cls ≠ "java/lang/invoke/MethodHandle" ∧ yX0_book.cls ≠ "java/lang/invoke/VarHandle" ∧ (parseMethodDescriptor yX0_book.desc).map (fun d => d.parameters.length) = some 4 := by decide +kernel
abbrev T_lw_book (G : JG) (M : PM) (pc : Nat) (L : List (Option Value)) (S : List Value) (o : Option (Int32 × PM)) : Prop := JJ G cX0_book yX0_book 5 8 (some .int) Sh (finR G Sh rvI) M pc L S o
def lw_book (p1 : Int32) (p2 : Int32) (M : PM) : Option (Int32 × PM) :=
    bd (x_book p1 p2 M) <| oel (fun M1 => some (1, M1)) fun v1 M1 =>
    ck 0 1 <|
    lt (M1.sl 104 (ix 0) (Int32.toInt64 v1)) fun M2 =>
    some (0, M2)

set_option maxHeartbeats 4000000 in
theorem t_lw_book (G : JG) (hl9 : (gl G).stackTraces = false) (p1 : Int32) (p2 : Int32) (M : PM) : T_lw_book G  M 0 (ent [.ref 20, .int p1, .int p2, .ref 104] 5) [] (lw_book p1 p2 M) := by
  unfold lw_book
  refine J_aload_n (pc := 0) dX0_book_0 rfl ?_
  refine J_iconst (pc := 1) 0 dX0_book_1 (by decide) ?_
  refine J_aload_n (pc := 2) dX0_book_2 rfl ?_
  refine J_iload_n (pc := 3) dX0_book_3 rfl ?_
  refine J_iload_n (pc := 4) dX0_book_4 rfl ?_
  refine J_callVX (f := oel _ _) (pc := 5) (n := 2) (b := 20) (vs := [.int p1, .int p2]) (ci := 0) hl9 (fun l hl => C_x_book l hl p1 p2 M) (lw_V q1089 q1090 q1091 q116 q1092) nmv_X1_book rfl (by omega) (by decide) rfl (fun h => sh_k1 h 0 rfl) rfl (Nat.le_of_ble_eq_true rfl) dX0_book_5 (et_2 rfl (by decide) (by decide)) (by decide) q1005 (stx_astore dX0_book_13 (by decide) rfl (fun k v h h2 => ?_)) (fun M1 => ?_) (fun v1 M1 => ?_)
  · obtain rfl : k = 3 := Nat.succ.inj h
    have h3 : some (some (Value.ref 104)) = some (some v) := h2
    cases h3
    decide
  · refine J_iconst (pc := 15) 1 dX0_book_15 (by decide) ?_
    exact J_iret (pc := 16) dX0_book_16
  refine J_i2l (pc := 8) dX0_book_8 ?_
  refine J_ck (fun h1 => ?_)
  refine J_last (pc := 9) (a := 104) (fun h => sh_a h 84 rfl h1) (fun h => Sh_sl h) dX0_book_9 ?_
  refine J_ltM (fun M2 => ?_)
  refine J_goto (pc := 10) 17 dX0_book_10 rfl ?_
  refine J_iconst (pc := 17) 0 dX0_book_17 (by decide) ?_
  exact J_iret (pc := 18) dX0_book_18

theorem C_lw_book (l : Launch) (hl9 : l.stackTraces = false) (p1 : Int32) (p2 : Int32) (M : PM) : CtrH l Sh yX0_book cX0_book 5 (some .int) [(0, 10, 13, 13)] 8 rvI [.ref 20, .int p1, .int p2, .ref 104] M (lw_book p1 p2 M) := CtrH.of hl9 (by decide +kernel) (Nat.le_of_ble_eq_true rfl) (fun G hl9 => t_lw_book G hl9 p1 p2 M) (et_2 rfl (by decide) (by decide))

theorem nmh_X0_row : yX0_row.cls ≠ "java/lang/invoke/MethodHandle" ∧ yX0_row.cls ≠ "java/lang/invoke/VarHandle" ∧ (parseMethodDescriptor yX0_row.desc).map (fun d => d.parameters.length) = some 3 := by decide +kernel
abbrev T_lw_row (G : JG) (M : PM) (pc : Nat) (L : List (Option Value)) (S : List Value) (o : Option (Int32 × PM)) : Prop := JJ G cX0_row yX0_row 4 8 (some .int) Sh (finR G Sh rvI) M pc L S o
def lw_row (p1 : Int32) (M : PM) : Option (Int32 × PM) :=
    bd (x_row p1 M) <| oel (fun M1 => some (1, M1)) fun w1 M1 =>
    ck 0 1 <|
    lt (M1.sl 104 (ix 0) w1) fun M2 =>
    some (0, M2)

set_option maxHeartbeats 4000000 in
theorem t_lw_row (G : JG) (hl9 : (gl G).stackTraces = false) (p1 : Int32) (M : PM) : T_lw_row G  M 0 (ent [.ref 20, .int p1, .ref 104] 4) [] (lw_row p1 M) := by
  unfold lw_row
  refine J_aload_n (pc := 0) dX0_row_0 rfl ?_
  refine J_iconst (pc := 1) 0 dX0_row_1 (by decide) ?_
  refine J_aload_n (pc := 2) dX0_row_2 rfl ?_
  refine J_iload_n (pc := 3) dX0_row_3 rfl ?_
  refine J_callVX (f := oel _ _) (pc := 4) (n := 1) (b := 20) (vs := [.int p1]) (ci := 0) hl9 (fun l hl => C_x_row l hl p1 M) (lw_V q1097 q1098 q1099 q116 q1100) nmv_X1_row rfl (by omega) (by decide) rfl (fun h => sh_k1 h 0 rfl) rfl (Nat.le_of_ble_eq_true rfl) dX0_row_4 (et_1 rfl rfl) (by decide) q1005 (stx_astore_n dX0_row_11 (by decide) rfl (fun k v h h2 => ?_)) (fun M1 => ?_) (fun w1 M1 => ?_)
  · obtain rfl : k = 2 := Nat.succ.inj h
    have h3 : some (some (Value.ref 104)) = some (some v) := h2
    cases h3
    decide
  · refine J_iconst (pc := 12) 1 dX0_row_12 (by decide) ?_
    exact J_iret (pc := 13) dX0_row_13
  refine J_ck (fun h1 => ?_)
  refine J_last (pc := 7) (a := 104) (fun h => sh_a h 84 rfl h1) (fun h => Sh_sl h) dX0_row_7 ?_
  refine J_ltM (fun M2 => ?_)
  refine J_goto (pc := 8) 14 dX0_row_8 rfl ?_
  refine J_iconst (pc := 14) 0 dX0_row_14 (by decide) ?_
  exact J_iret (pc := 15) dX0_row_15

theorem C_lw_row (l : Launch) (hl9 : l.stackTraces = false) (p1 : Int32) (M : PM) : CtrH l Sh yX0_row cX0_row 4 (some .int) [(0, 8, 11, 13)] 8 rvI [.ref 20, .int p1, .ref 104] M (lw_row p1 M) := CtrH.of hl9 (by decide +kernel) (Nat.le_of_ble_eq_true rfl) (fun G hl9 => t_lw_row G hl9 p1 M) (et_1 rfl rfl)

