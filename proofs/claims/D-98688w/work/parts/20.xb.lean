set_option maxRecDepth 100000
abbrev T_rd_becomes (G : JG) (M : PM) (pc : Nat) (L : List (Option Value)) (S : List Value) (o : Option (Unit × PM)) : Prop := JJ G cX2_becomes yX2_becomes 2 1 none Sh (finR G Sh rvU) M pc L S o
def rd_becomes (p0 : Nat) (p1 : Nat) (M : PM) : Option (Unit × PM) :=
    ckk M p1 1 <|
    lt (M.r p1 0) fun r1 =>
    ckk M p0 1 <|
    lt (M.r p0 0) fun r2 =>
    rf r2 fun a1 =>
    rf r1 fun a2 =>
    ckc M a2 0 a1 0 4 <|
    lt (M.ci a2 (ix 0) a1 (ix 0) (ix 4)) fun M1 =>
    ckk M1 p1 1 <|
    lt (M1.r p1 1) fun r3 =>
    ckk M1 p0 1 <|
    lt (M1.r p0 1) fun r4 =>
    rf r4 fun a3 =>
    rf r3 fun a4 =>
    ckc M1 a4 0 a3 0 4 <|
    lt (M1.ci a4 (ix 0) a3 (ix 0) (ix 4)) fun M2 =>
    ckk M2 p1 1 <|
    lt (M2.r p1 2) fun r5 =>
    ckk M2 p0 1 <|
    lt (M2.r p0 2) fun r6 =>
    rf r6 fun a5 =>
    rf r5 fun a6 =>
    ckc M2 a6 0 a5 0 4 <|
    lt (M2.ci a6 (ix 0) a5 (ix 0) (ix 4)) fun M3 =>
    ckk M3 p1 1 <|
    lt (M3.r p1 3) fun r7 =>
    ckk M3 p0 1 <|
    lt (M3.r p0 3) fun r8 =>
    rf r8 fun a7 =>
    rf r7 fun a8 =>
    ckc M3 a8 0 a7 0 30 <|
    lt (M3.ci a8 (ix 0) a7 (ix 0) (ix 30)) fun M4 =>
    ckk M4 p1 1 <|
    ckk M4 p0 1 <|
    lt (M4.si p0 4 (M4.i p1 4)) fun M5 =>
    ckk M5 p1 1 <|
    ckk M5 p0 1 <|
    lt (M5.si p0 5 (M5.i p1 5)) fun M6 =>
    some ((), M6)

set_option maxHeartbeats 4000000 in
theorem t_rd_becomes (G : JG) (p0 : Nat) (p1 : Nat) (M : PM) : T_rd_becomes G  M 0 (ent [.ref p0, .ref p1] 2) [] (rd_becomes p0 p1 M) := by
  unfold rd_becomes
  refine J_aload_n (pc := 0) dX2_becomes_0 rfl ?_
  refine J_ckk (fun h1 => ?_)
  refine J_getO (pc := 1) (c := 1) rfl in_X2 0 (by decide) q150 rfl (fun _ => h1) (fun _ _ => fv_rf (Or.inr ⟨_, rfl⟩)) dX2_becomes_1 (fun r1 => ?_)
  refine J_iconst (pc := 4) 0 dX2_becomes_4 (by decide) ?_
  refine J_aload_n (pc := 5) dX2_becomes_5 rfl ?_
  refine J_ckk (fun h2 => ?_)
  refine J_getO (pc := 6) (c := 1) rfl in_X2 0 (by decide) q150 rfl (fun _ => h2) (fun _ _ => fv_rf (Or.inr ⟨_, rfl⟩)) dX2_becomes_6 (fun r2 => ?_)
  refine J_iconst (pc := 9) 0 dX2_becomes_9 (by decide) ?_
  refine J_iconst (pc := 10) 4 dX2_becomes_10 (by decide) ?_
  refine J_rfe (fun a1 ea1 => ?_)
  subst ea1
  refine J_rfe (fun a2 ea2 => ?_)
  subst ea2
  refine J_ckc (fun h3 => ?_)
  refine J_copy (pc := 11) (by omega) q669 q524 q523 q125 h3 (Nat.le_of_ble_eq_true rfl) (fun h => Sh_ci h) dX2_becomes_11 ?_
  refine J_ltM (fun M1 => ?_)
  refine J_aload_n (pc := 14) dX2_becomes_14 rfl ?_
  refine J_ckk (fun h4 => ?_)
  refine J_getO (pc := 15) (c := 1) rfl in_X2 1 (by decide) q152 rfl (fun _ => h4) (fun _ _ => fv_rf (Or.inr ⟨_, rfl⟩)) dX2_becomes_15 (fun r3 => ?_)
  refine J_iconst (pc := 18) 0 dX2_becomes_18 (by decide) ?_
  refine J_aload_n (pc := 19) dX2_becomes_19 rfl ?_
  refine J_ckk (fun h5 => ?_)
  refine J_getO (pc := 20) (c := 1) rfl in_X2 1 (by decide) q152 rfl (fun _ => h5) (fun _ _ => fv_rf (Or.inr ⟨_, rfl⟩)) dX2_becomes_20 (fun r4 => ?_)
  refine J_iconst (pc := 23) 0 dX2_becomes_23 (by decide) ?_
  refine J_iconst (pc := 24) 4 dX2_becomes_24 (by decide) ?_
  refine J_rfe (fun a3 ea3 => ?_)
  subst ea3
  refine J_rfe (fun a4 ea4 => ?_)
  subst ea4
  refine J_ckc (fun h6 => ?_)
  refine J_copy (pc := 25) (by omega) q669 q524 q523 q125 h6 (Nat.le_of_ble_eq_true rfl) (fun h => Sh_ci h) dX2_becomes_25 ?_
  refine J_ltM (fun M2 => ?_)
  refine J_aload_n (pc := 28) dX2_becomes_28 rfl ?_
  refine J_ckk (fun h7 => ?_)
  refine J_getO (pc := 29) (c := 1) rfl in_X2 2 (by decide) q154 rfl (fun _ => h7) (fun _ _ => fv_rf (Or.inr ⟨_, rfl⟩)) dX2_becomes_29 (fun r5 => ?_)
  refine J_iconst (pc := 32) 0 dX2_becomes_32 (by decide) ?_
  refine J_aload_n (pc := 33) dX2_becomes_33 rfl ?_
  refine J_ckk (fun h8 => ?_)
  refine J_getO (pc := 34) (c := 1) rfl in_X2 2 (by decide) q154 rfl (fun _ => h8) (fun _ _ => fv_rf (Or.inr ⟨_, rfl⟩)) dX2_becomes_34 (fun r6 => ?_)
  refine J_iconst (pc := 37) 0 dX2_becomes_37 (by decide) ?_
  refine J_iconst (pc := 38) 4 dX2_becomes_38 (by decide) ?_
  refine J_rfe (fun a5 ea5 => ?_)
  subst ea5
  refine J_rfe (fun a6 ea6 => ?_)
  subst ea6
  refine J_ckc (fun h9 => ?_)
  refine J_copy (pc := 39) (by omega) q669 q524 q523 q125 h9 (Nat.le_of_ble_eq_true rfl) (fun h => Sh_ci h) dX2_becomes_39 ?_
  refine J_ltM (fun M3 => ?_)
  refine J_aload_n (pc := 42) dX2_becomes_42 rfl ?_
  refine J_ckk (fun h10 => ?_)
  refine J_getO (pc := 43) (c := 1) rfl in_X2 3 (by decide) q156 rfl (fun _ => h10) (fun _ _ => fv_rf (Or.inr ⟨_, rfl⟩)) dX2_becomes_43 (fun r7 => ?_)
  refine J_iconst (pc := 46) 0 dX2_becomes_46 (by decide) ?_
  refine J_aload_n (pc := 47) dX2_becomes_47 rfl ?_
  refine J_ckk (fun h11 => ?_)
  refine J_getO (pc := 48) (c := 1) rfl in_X2 3 (by decide) q156 rfl (fun _ => h11) (fun _ _ => fv_rf (Or.inr ⟨_, rfl⟩)) dX2_becomes_48 (fun r8 => ?_)
  refine J_iconst (pc := 51) 0 dX2_becomes_51 (by decide) ?_
  refine J_bipush (pc := 52) 30 dX2_becomes_52 (by decide) ?_
  refine J_rfe (fun a7 ea7 => ?_)
  subst ea7
  refine J_rfe (fun a8 ea8 => ?_)
  subst ea8
  refine J_ckc (fun h12 => ?_)
  refine J_copy (pc := 54) (by omega) q669 q524 q523 q125 h12 (Nat.le_of_ble_eq_true rfl) (fun h => Sh_ci h) dX2_becomes_54 ?_
  refine J_ltM (fun M4 => ?_)
  refine J_aload_n (pc := 57) dX2_becomes_57 rfl ?_
  refine J_aload_n (pc := 58) dX2_becomes_58 rfl ?_
  refine J_ckk (fun h13 => ?_)
  refine J_get (pc := 59) (c := 1) (.int (M4.i p1 4)) rfl in_X2 4 (by decide) q158 rfl (fun _ => h13) (fun _ _ => rfl) dX2_becomes_59 ?_
  refine J_ckk (fun h14 => ?_)
  refine J_put (pc := 62) (a := p0) (v := .int (M4.i p1 4)) (M' := M4.si p0 4 (M4.i p1 4)) (c := 1) rfl in_X2 tyX2_ok fnX2 4 (by decide) q158 rfl (Or.inl rfl) (fun _ => h14) (fun _ => rfl) (fun _ => rfl) ⟨⟨rfl, rfl⟩, rfl⟩ (fun _ hb => up2_same hb) (fun _ _ => rfl) (fun _ _ => rfl) (put_i (fun _ _ _ => rfl)) (fun h => Sh_si h) dX2_becomes_62 ?_
  refine J_ltM (fun M5 => ?_)
  refine J_aload_n (pc := 65) dX2_becomes_65 rfl ?_
  refine J_aload_n (pc := 66) dX2_becomes_66 rfl ?_
  refine J_ckk (fun h15 => ?_)
  refine J_get (pc := 67) (c := 1) (.int (M5.i p1 5)) rfl in_X2 5 (by decide) q160 rfl (fun _ => h15) (fun _ _ => rfl) dX2_becomes_67 ?_
  refine J_ckk (fun h16 => ?_)
  refine J_put (pc := 70) (a := p0) (v := .int (M5.i p1 5)) (M' := M5.si p0 5 (M5.i p1 5)) (c := 1) rfl in_X2 tyX2_ok fnX2 5 (by decide) q160 rfl (Or.inl rfl) (fun _ => h16) (fun _ => rfl) (fun _ => rfl) ⟨⟨rfl, rfl⟩, rfl⟩ (fun _ hb => up2_same hb) (fun _ _ => rfl) (fun _ _ => rfl) (put_i (fun _ _ _ => rfl)) (fun h => Sh_si h) dX2_becomes_70 ?_
  refine J_ltM (fun M6 => ?_)
  exact J_ret (pc := 73) dX2_becomes_73

theorem C_rd_becomes (l : Launch) (p0 : Nat) (p1 : Nat) (M : PM) : Ctr l Sh yX2_becomes cX2_becomes 2 none 1 rvU [.ref p0, .ref p1] M (rd_becomes p0 p1 M) := Ctr.of (by decide +kernel) (Nat.le_of_ble_eq_true rfl) (fun G => t_rd_becomes G p0 p1 M)

abbrev T_x_undo (G : JG) (M : PM) (pc : Nat) (L : List (Option Value)) (S : List Value) (o : Option (Int32 × PM)) : Prop := JJ G cX1_undo yX1_undo 1 2 (some .int) Sh (finR G Sh rvI) M pc L S o
def x_undo (M : PM) : Option (Int32 × PM) :=
    if (M.i 20 43) = 0 then (some ((-1), M))
    else (lt (M.si 20 43 ((M.i 20 43) - 1)) fun M1 =>
    ck (M1.i 20 43) 12 <|
    lt (M1.r 51 (ix (M1.i 20 43))) fun r1 =>
    rf r1 fun a1 =>
    bd (rd_becomes 21 a1 M1) fun _ M2 =>
    some ((M2.i 20 43), M2))

set_option maxHeartbeats 4000000 in
theorem t_x_undo (G : JG) (M : PM) : T_x_undo G  M 0 (ent [.ref 20] 1) [] (x_undo M) := by
  unfold x_undo
  refine J_aload_n (pc := 0) dX1_undo_0 rfl ?_
  refine J_get (pc := 1) (c := 0) (.int (M.i 20 43)) rfl in_X1 43 (by decide) q227 rfl (fun h => sh_k1 h 0 rfl) (fun _ _ => rfl) dX1_undo_1 ?_
  refine J_if_ne (pc := 4) 9 dX1_undo_4 rfl (fun h => if_neg h) (fun h => if_pos h) (fun _ => ?_) (fun _ => ?_)
  · refine J_aload_n (pc := 9) dX1_undo_9 rfl ?_
    refine J_dup (pc := 10) dX1_undo_10 rfl ?_
    refine J_get (pc := 11) (c := 0) (.int (M.i 20 43)) rfl in_X1 43 (by decide) q227 rfl (fun h => sh_k1 h 0 rfl) (fun _ _ => rfl) dX1_undo_11 ?_
    refine J_iconst (pc := 14) 1 dX1_undo_14 (by decide) ?_
    refine J_isub (pc := 15) dX1_undo_15 ?_
    refine J_put (pc := 16) (a := 20) (v := .int ((M.i 20 43) - 1)) (M' := M.si 20 43 ((M.i 20 43) - 1)) (c := 0) rfl in_X1 tyX1_ok fnX1 43 (by decide) q227 rfl (Or.inl rfl) (fun h => sh_k1 h 0 rfl) (fun _ => rfl) (fun _ => rfl) ⟨⟨rfl, rfl⟩, rfl⟩ (fun _ hb => up2_same hb) (fun _ _ => rfl) (fun _ _ => rfl) (put_i (fun _ _ _ => rfl)) (fun h => Sh_si h) dX1_undo_16 ?_
    refine J_ltM (fun M1 => ?_)
    refine J_aload_n (pc := 19) dX1_undo_19 rfl ?_
    refine J_get (pc := 20) (c := 0) (.ref 21) rfl in_X1 0 (by decide) q177 rfl (fun h => sh_k1 h 0 rfl) (fun h _ => fv_ref (Or.inl ⟨_, rfl⟩) (sh_r h 4 rfl)) dX1_undo_20 ?_
    refine J_aload_n (pc := 23) dX1_undo_23 rfl ?_
    refine J_get (pc := 24) (c := 0) (.ref 51) rfl in_X1 41 (by decide) q225 rfl (fun h => sh_k1 h 0 rfl) (fun h _ => fv_ref (Or.inr ⟨_, rfl⟩) (sh_r h 30 rfl)) dX1_undo_24 ?_
    refine J_aload_n (pc := 27) dX1_undo_27 rfl ?_
    refine J_get (pc := 28) (c := 0) (.int (M1.i 20 43)) rfl in_X1 43 (by decide) q227 rfl (fun h => sh_k1 h 0 rfl) (fun _ _ => rfl) dX1_undo_28 ?_
    refine J_ck (fun h1 => ?_)
    refine J_aaldO (pc := 31) (a := 51) (fun h => sh_a h 31 rfl h1) dX1_undo_31 (fun r1 => ?_)
    refine J_rfe (fun a1 ea1 => ?_)
    subst ea1
    refine J_callV (pc := 32) (n := 1) (b := 21) (vs := [.ref a1]) (ci := 1) (fun l => C_rd_becomes l 21 a1 M1) (lw_V q665 q666 q667 q117 q668) nmv_X2_becomes rfl (by omega) (by decide) rfl (fun h => sh_k1 h 1 rfl) rfl (Nat.le_of_ble_eq_true rfl) dX1_undo_32 (fun _ M2 => ?_)
    refine J_aload_n (pc := 35) dX1_undo_35 rfl ?_
    refine J_get (pc := 36) (c := 0) (.int (M2.i 20 43)) rfl in_X1 43 (by decide) q227 rfl (fun h => sh_k1 h 0 rfl) (fun _ _ => rfl) dX1_undo_36 ?_
    exact J_iret (pc := 39) dX1_undo_39
  · refine J_iconst (pc := 7) (-1) dX1_undo_7 (by decide) ?_
    exact J_iret (pc := 8) dX1_undo_8

theorem C_x_undo (l : Launch) (M : PM) : Ctr l Sh yX1_undo cX1_undo 1 (some .int) 2 rvI [.ref 20] M (x_undo M) := Ctr.of (by decide +kernel) (Nat.le_of_ble_eq_true rfl) (fun G => t_x_undo G M)

abbrev T_x_isStation (G : JG) (M : PM) (pc : Nat) (L : List (Option Value)) (S : List Value) (o : Option (Int32 × PM)) : Prop := JJ G cX1_isStation yX1_isStation 2 2 (some .boolean) Sh (finR G Sh rvI) M pc L S o
def x_isStation (p1 : Int32) (M : PM) : Option (Int32 × PM) :=
    bd (x_in (Int32.toInt64 p1) 0 (Int32.toInt64 ((M.i 20 10) - 1)) M) fun v1 M1 =>
    ckb (v1 = 0 ∨ v1 = 1) <|
    some (v1, M1)

set_option maxHeartbeats 4000000 in
theorem t_x_isStation (G : JG) (p1 : Int32) (M : PM) : T_x_isStation G  M 0 (ent [.ref 20, .int p1] 2) [] (x_isStation p1 M) := by
  unfold x_isStation
  refine J_iload_n (pc := 0) dX1_isStation_0 rfl ?_
  refine J_i2l (pc := 1) dX1_isStation_1 ?_
  refine J_lconst (pc := 2) 0 dX1_isStation_2 (by decide) ?_
  refine J_aload_n (pc := 3) dX1_isStation_3 rfl ?_
  refine J_get (pc := 4) (c := 0) (.int (M.i 20 10)) rfl in_X1 10 (by decide) q187 rfl (fun h => sh_k1 h 0 rfl) (fun _ _ => rfl) dX1_isStation_4 ?_
  refine J_iconst (pc := 7) 1 dX1_isStation_7 (by decide) ?_
  refine J_isub (pc := 8) dX1_isStation_8 ?_
  refine J_i2l (pc := 9) dX1_isStation_9 ?_
  refine J_callS (pc := 10) (n := 3) (vs := [.long (Int32.toInt64 p1), .long 0, .long (Int32.toInt64 ((M.i 20 10) - 1))]) (fun l => C_x_in l (Int32.toInt64 p1) 0 (Int32.toInt64 ((M.i 20 10) - 1)) M) (lw_S q398 q399 q116 q400) nmh_X1_in rfl (by omega) (by decide) rfl (Nat.le_of_ble_eq_true rfl) dX1_isStation_10 (fun v1 M1 => ?_)
  refine J_ckb (fun h1 => ?_)
  exact J_zret (pc := 13) (nz h1) dX1_isStation_13

theorem C_x_isStation (l : Launch) (p1 : Int32) (M : PM) : Ctr l Sh yX1_isStation cX1_isStation 2 (some .boolean) 2 rvI [.ref 20, .int p1] M (x_isStation p1 M) := Ctr.of (by decide +kernel) (Nat.le_of_ble_eq_true rfl) (fun G => t_x_isStation G p1 M)

abbrev T_x_isWord (G : JG) (M : PM) (pc : Nat) (L : List (Option Value)) (S : List Value) (o : Option (Int32 × PM)) : Prop := JJ G cX1_isWord yX1_isWord 2 2 (some .boolean) Sh (finR G Sh rvI) M pc L S o
def x_isWord (p1 : Int32) (M : PM) : Option (Int32 × PM) :=
    bd (x_in (Int32.toInt64 p1) 0 (Int32.toInt64 ((M.i 20 11) - 1)) M) fun v1 M1 =>
    ckb (v1 = 0 ∨ v1 = 1) <|
    some (v1, M1)

set_option maxHeartbeats 4000000 in
theorem t_x_isWord (G : JG) (p1 : Int32) (M : PM) : T_x_isWord G  M 0 (ent [.ref 20, .int p1] 2) [] (x_isWord p1 M) := by
  unfold x_isWord
  refine J_iload_n (pc := 0) dX1_isWord_0 rfl ?_
  refine J_i2l (pc := 1) dX1_isWord_1 ?_
  refine J_lconst (pc := 2) 0 dX1_isWord_2 (by decide) ?_
  refine J_aload_n (pc := 3) dX1_isWord_3 rfl ?_
  refine J_get (pc := 4) (c := 0) (.int (M.i 20 11)) rfl in_X1 11 (by decide) q188 rfl (fun h => sh_k1 h 0 rfl) (fun _ _ => rfl) dX1_isWord_4 ?_
  refine J_iconst (pc := 7) 1 dX1_isWord_7 (by decide) ?_
  refine J_isub (pc := 8) dX1_isWord_8 ?_
  refine J_i2l (pc := 9) dX1_isWord_9 ?_
  refine J_callS (pc := 10) (n := 3) (vs := [.long (Int32.toInt64 p1), .long 0, .long (Int32.toInt64 ((M.i 20 11) - 1))]) (fun l => C_x_in l (Int32.toInt64 p1) 0 (Int32.toInt64 ((M.i 20 11) - 1)) M) (lw_S q398 q399 q116 q400) nmh_X1_in rfl (by omega) (by decide) rfl (Nat.le_of_ble_eq_true rfl) dX1_isWord_10 (fun v1 M1 => ?_)
  refine J_ckb (fun h1 => ?_)
  exact J_zret (pc := 13) (nz h1) dX1_isWord_13

theorem C_x_isWord (l : Launch) (p1 : Int32) (M : PM) : Ctr l Sh yX1_isWord cX1_isWord 2 (some .boolean) 2 rvI [.ref 20, .int p1] M (x_isWord p1 M) := Ctr.of (by decide +kernel) (Nat.le_of_ble_eq_true rfl) (fun G => t_x_isWord G p1 M)

abbrev T_x_tells (G : JG) (M : PM) (pc : Nat) (L : List (Option Value)) (S : List Value) (o : Option (Unit × PM)) : Prop := JJ G cX1_tells yX1_tells 3 1 none Sh (finR G Sh rvU) M pc L S o
def x_tells (p1 : Int64) (M : PM) : Option (Unit × PM) :=
    ck (M.i 20 67) 16 <|
    lt (M.sl 71 (ix (M.i 20 67)) p1) fun M1 =>
    lt (M1.si 20 67 ((M1.i 20 67) + 1)) fun M2 =>
    some ((), M2)

set_option maxHeartbeats 4000000 in
theorem t_x_tells (G : JG) (p1 : Int64) (M : PM) : T_x_tells G  M 0 (ent [.ref 20, .long p1] 3) [] (x_tells p1 M) := by
  unfold x_tells
  refine J_aload_n (pc := 0) dX1_tells_0 rfl ?_
  refine J_get (pc := 1) (c := 0) (.ref 71) rfl in_X1 66 (by decide) q250 rfl (fun h => sh_k1 h 0 rfl) (fun h _ => fv_ref (Or.inr ⟨_, rfl⟩) (sh_r h 50 rfl)) dX1_tells_1 ?_
  refine J_aload_n (pc := 4) dX1_tells_4 rfl ?_
  refine J_get (pc := 5) (c := 0) (.int (M.i 20 67)) rfl in_X1 67 (by decide) q251 rfl (fun h => sh_k1 h 0 rfl) (fun _ _ => rfl) dX1_tells_5 ?_
  refine J_lload_n (pc := 8) dX1_tells_8 rfl ?_
  refine J_ck (fun h1 => ?_)
  refine J_last (pc := 9) (a := 71) (fun h => sh_a h 51 rfl h1) (fun h => Sh_sl h) dX1_tells_9 ?_
  refine J_ltM (fun M1 => ?_)
  refine J_aload_n (pc := 10) dX1_tells_10 rfl ?_
  refine J_dup (pc := 11) dX1_tells_11 rfl ?_
  refine J_get (pc := 12) (c := 0) (.int (M1.i 20 67)) rfl in_X1 67 (by decide) q251 rfl (fun h => sh_k1 h 0 rfl) (fun _ _ => rfl) dX1_tells_12 ?_
  refine J_iconst (pc := 15) 1 dX1_tells_15 (by decide) ?_
  refine J_iadd (pc := 16) dX1_tells_16 ?_
  refine J_put (pc := 17) (a := 20) (v := .int ((M1.i 20 67) + 1)) (M' := M1.si 20 67 ((M1.i 20 67) + 1)) (c := 0) rfl in_X1 tyX1_ok fnX1 67 (by decide) q251 rfl (Or.inl rfl) (fun h => sh_k1 h 0 rfl) (fun _ => rfl) (fun _ => rfl) ⟨⟨rfl, rfl⟩, rfl⟩ (fun _ hb => up2_same hb) (fun _ _ => rfl) (fun _ _ => rfl) (put_i (fun _ _ _ => rfl)) (fun h => Sh_si h) dX1_tells_17 ?_
  refine J_ltM (fun M2 => ?_)
  exact J_ret (pc := 20) dX1_tells_20

theorem C_x_tells (l : Launch) (p1 : Int64) (M : PM) : Ctr l Sh yX1_tells cX1_tells 3 none 1 rvU [.ref 20, .long p1] M (x_tells p1 M) := Ctr.of (by decide +kernel) (Nat.le_of_ble_eq_true rfl) (fun G => t_x_tells G p1 M)

abbrev T_x_vowelAt (G : JG) (M : PM) (pc : Nat) (L : List (Option Value)) (S : List Value) (o : Option (Int32 × PM)) : Prop := JJ G cX1_vowelAt yX1_vowelAt 3 6 (some .int) Sh (finR G Sh rvI) M pc L S o
def x_vowelAt (p1 : Int32) (p2 : Int32) (M : PM) : Option (Int32 × PM) :=
    ck ((6 * p1) + p2) 60 <|
    bd (s_indexOf 7 (97 + (M.i 31 (ix ((6 * p1) + p2)))) M) fun v1 M1 =>
    some (v1, M1)

set_option maxHeartbeats 4000000 in
theorem t_x_vowelAt (G : JG) (p1 : Int32) (p2 : Int32) (M : PM) : T_x_vowelAt G  M 0 (ent [.ref 20, .int p1, .int p2] 3) [] (x_vowelAt p1 p2 M) := by
  unfold x_vowelAt
  refine J_ldcS (pc := 0) (i := 6) rfl rfl dX1_vowelAt_0 ?_
  refine J_bipush (pc := 2) 97 dX1_vowelAt_2 (by decide) ?_
  refine J_aload_n (pc := 4) dX1_vowelAt_4 rfl ?_
  refine J_get (pc := 5) (c := 0) (.ref 31) rfl in_X1 2 (by decide) q179 rfl (fun h => sh_k1 h 0 rfl) (fun h _ => fv_ref (Or.inr ⟨_, rfl⟩) (sh_r h 10 rfl)) dX1_vowelAt_5 ?_
  refine J_bipush (pc := 8) 6 dX1_vowelAt_8 (by decide) ?_
  refine J_iload_n (pc := 10) dX1_vowelAt_10 rfl ?_
  refine J_imul (pc := 11) dX1_vowelAt_11 ?_
  refine J_iload_n (pc := 12) dX1_vowelAt_12 rfl ?_
  refine J_iadd (pc := 13) dX1_vowelAt_13 ?_
  refine J_ck (fun h1 => ?_)
  refine J_iald (pc := 14) (a := 31) (fun h => sh_a h 11 rfl h1) dX1_vowelAt_14 ?_
  refine J_iadd (pc := 15) dX1_vowelAt_15 ?_
  refine J_indexOf (pc := 16) (i := 7) (by omega) q425 (Nat.le_of_ble_eq_true rfl) dX1_vowelAt_16 (fun v1 M1 => ?_)
  exact J_iret (pc := 19) dX1_vowelAt_19

theorem C_x_vowelAt (l : Launch) (p1 : Int32) (p2 : Int32) (M : PM) : Ctr l Sh yX1_vowelAt cX1_vowelAt 3 (some .int) 6 rvI [.ref 20, .int p1, .int p2] M (x_vowelAt p1 p2 M) := Ctr.of (by decide +kernel) (Nat.le_of_ble_eq_true rfl) (fun G => t_x_vowelAt G p1 p2 M)

abbrev T_x_tollOf (G : JG) (M : PM) (pc : Nat) (L : List (Option Value)) (S : List Value) (o : Option (Int32 × PM)) : Prop := JJ G cX1_tollOf yX1_tollOf 8 141 (some .int) Sh (finR G Sh rvI) M pc L S o
def x_tollOf_L34 (c1 : Int32) (c4 : Int32) (k54 : PM → Option (Int32 × PM)) : Nat → Int32 → PM → Option (Int32 × PM)
  | 0, _, _ => none
  | n + 1, v1, M5 =>
    if 5 ≤ v1 then (k54 M5)
    else (ck v1 5 <|
    lt (M5.si 50 (ix v1) 0) fun M6 =>
    lt (v1 + 1) fun v2 =>
    x_tollOf_L34 c1 c4 k54 n v2 M6)

set_option maxHeartbeats 4000000 in
theorem t_x_tollOf_L34 (G : JG) (c1 : Int32) (c4 : Int32) (k54 : PM → Option (Int32 × PM)) (hk54 : ∀ Me, T_x_tollOf G  Me 54 [some (.ref 20), some (.int c1), none, none, some (.int c4), none, none, none] [] (k54 Me)) : ∀ (n : Nat) (v1 : Int32) (M5 : PM), T_x_tollOf G  M5 34 [some (.ref 20), some (.int c1), none, none, some (.int c4), some (.int v1), none, none] [] (x_tollOf_L34 c1 c4 k54 n v1 M5) := by
  intro n
  induction n with
  | zero =>
    intro v1 M5
    exact J_none
  | succ n ih =>
    intro v1 M5
    rw [x_tollOf_L34]
    refine J_iload (pc := 34) dX1_tollOf_34 rfl ?_
    refine J_iconst (pc := 36) 5 dX1_tollOf_36 (by decide) ?_
    refine J_icmp_ge (pc := 37) 54 dX1_tollOf_37 rfl (fun h => if_pos h) (fun h => if_neg h) (fun _ => ?_) (fun _ => ?_)
    · exact J_sub (A := [some (.ref 20), some (.int c1), none, none, some (.int c4), none, none, none]) ⟨rfl, ⟨rfl, ⟨rfl, trivial⟩⟩⟩ (hk54 M5)
    · refine J_aload_n (pc := 40) dX1_tollOf_40 rfl ?_
      refine J_get (pc := 41) (c := 0) (.ref 50) rfl in_X1 40 (by decide) q224 rfl (fun h => sh_k1 h 0 rfl) (fun h _ => fv_ref (Or.inr ⟨_, rfl⟩) (sh_r h 29 rfl)) dX1_tollOf_41 ?_
      refine J_iload (pc := 44) dX1_tollOf_44 rfl ?_
      refine J_iconst (pc := 46) 0 dX1_tollOf_46 (by decide) ?_
      refine J_ck (fun h3 => ?_)
      refine J_iast (pc := 47) (a := 50) (fun h => sh_a h 30 rfl h3) (fun h => Sh_si h) dX1_tollOf_47 ?_
      refine J_ltM (fun M6 => ?_)
      refine J_iincL (pc := 48) (n := 1) (by decide) dX1_tollOf_48 rfl (by decide) (fun v2 => ?_)
      refine J_goto (pc := 51) 34 dX1_tollOf_51 rfl ?_
      exact J_sub (A := [some (.ref 20), some (.int c1), none, none, some (.int c4), some (.int v2), none, none]) ⟨rfl, ⟨rfl, ⟨rfl, ⟨rfl, trivial⟩⟩⟩⟩ (ih v2 M6)

def x_tollOf_L57 (c1 : Int32) : Nat → Int32 → Int32 → PM → Option (Int32 × PM)
  | 0, _, _, _ => none
  | n + 1, v3, v4, M8 =>
    ck c1 10 <|
    if (M8.i 32 (ix c1)) ≤ v4 then (some (v3, M8))
    else (bd (x_vowelAt c1 v4 M8) fun v5 M9 =>
    jn (fun (v6 : Int32) (M10 : PM) =>
    lt (v4 + 1) fun v7 =>
    x_tollOf_L57 c1 n v6 v7 M10) fun j1 =>
    if 0 ≤ v5 then (lt (M9.si 20 31 v5) fun M11 =>
    lt (M11.si 20 35 v4) fun M12 =>
    jn (fun (v8 : Int32) (M13 : PM) =>
    lt (M13.si 20 37 v8) fun M14 =>
    lt (M14.r 20 38) fun r1 =>
    jn (fun (v9 : Int32) (M15 : PM) =>
    ck v5 5 <|
    ck v5 5 <|
    lt (M15.si 50 (ix v5) ((M15.i 50 (ix v5)) + v9)) fun M16 =>
    lt (v3 + v9) fun v10 =>
    lt (M16.si 20 36 ((M16.i 20 36) + 1)) fun M17 =>
    j1 v10 M17) fun j3 =>
    nl r1 (j3 (v5 + 1) M14) fun a1 =>
    lt (M14.r 20 38) fun r2 =>
    rf r2 fun a2 =>
    bd (v_value a2 M14) fun v11 M18 =>
    j3 (imax 0 (imin 99 v11)) M18) fun j2 =>
    if v4 ≤ 0 then (j2 0 M12)
    else (ck ((6 * c1) + v4) 60 <|
    ck (((6 * c1) + v4) - 1) 60 <|
    if (M12.i 31 (ix ((6 * c1) + v4))) = (M12.i 31 (ix (((6 * c1) + v4) - 1))) then (j2 1 M12)
    else (j2 0 M12)))
    else (j1 v3 M9))

set_option maxHeartbeats 4000000 in
theorem t_x_tollOf_L57 (G : JG) (c1 : Int32) : ∀ (n : Nat) (v3 : Int32) (v4 : Int32) (M8 : PM), T_x_tollOf G  M8 57 [some (.ref 20), some (.int c1), none, none, some (.int v3), some (.int v4), none, none] [] (x_tollOf_L57 c1 n v3 v4 M8) := by
  intro n
  induction n with
  | zero =>
    intro v3 v4 M8
    exact J_none
  | succ n ih =>
    intro v3 v4 M8
    rw [x_tollOf_L57]
    refine J_iload (pc := 57) dX1_tollOf_57 rfl ?_
    refine J_aload_n (pc := 59) dX1_tollOf_59 rfl ?_
    refine J_get (pc := 60) (c := 0) (.ref 32) rfl in_X1 3 (by decide) q180 rfl (fun h => sh_k1 h 0 rfl) (fun h _ => fv_ref (Or.inr ⟨_, rfl⟩) (sh_r h 11 rfl)) dX1_tollOf_60 ?_
    refine J_iload_n (pc := 63) dX1_tollOf_63 rfl ?_
    refine J_ck (fun h4 => ?_)
    refine J_iald (pc := 64) (a := 32) (fun h => sh_a h 12 rfl h4) dX1_tollOf_64 ?_
    refine J_icmp_ge (pc := 65) 207 dX1_tollOf_65 rfl (fun h => if_pos h) (fun h => if_neg h) (fun _ => ?_) (fun _ => ?_)
    · refine J_iload (pc := 207) dX1_tollOf_207 rfl ?_
      exact J_iret (pc := 209) dX1_tollOf_209
    · refine J_aload_n (pc := 68) dX1_tollOf_68 rfl ?_
      refine J_iload_n (pc := 69) dX1_tollOf_69 rfl ?_
      refine J_iload (pc := 70) dX1_tollOf_70 rfl ?_
      refine J_callV (pc := 72) (n := 2) (b := 20) (vs := [.int c1, .int v4]) (ci := 0) (fun l => C_x_vowelAt l c1 v4 M8) (lw_V q686 q688 qs19 q116 q689) nmv_X1_vowelAt rfl (by omega) (by decide) rfl (fun h => sh_k1 h 0 rfl) rfl (Nat.le_of_ble_eq_true rfl) dX1_tollOf_72 (fun v5 M9 => ?_)
      refine J_istore (pc := 75) dX1_tollOf_75 (by decide) ?_
      refine J_iload (pc := 77) dX1_tollOf_77 rfl ?_
      refine J_jn (P := fun J => ∀ (v6 : Int32) (M10 : PM), T_x_tollOf G  M10 201 [some (.ref 20), some (.int c1), none, none, some (.int v6), some (.int v4), none, none] [] (J v6 M10)) (fun v6 M10 => ?_) (fun j1 hj1 => ?_)
      · refine J_iincL (pc := 201) (n := 1) (by decide) dX1_tollOf_201 rfl (by decide) (fun v7 => ?_)
        refine J_goto (pc := 204) 57 dX1_tollOf_204 rfl ?_
        exact J_sub (A := [some (.ref 20), some (.int c1), none, none, some (.int v6), some (.int v7), none, none]) ⟨rfl, ⟨rfl, ⟨rfl, ⟨rfl, trivial⟩⟩⟩⟩ (ih v6 v7 M10)
      refine J_if_ge (pc := 79) 85 dX1_tollOf_79 rfl (fun h => if_pos h) (fun h => if_neg h) (fun _ => ?_) (fun _ => ?_)
      · refine J_aload_n (pc := 85) dX1_tollOf_85 rfl ?_
        refine J_iload (pc := 86) dX1_tollOf_86 rfl ?_
        refine J_put (pc := 88) (a := 20) (v := .int v5) (M' := M9.si 20 31 v5) (c := 0) rfl in_X1 tyX1_ok fnX1 31 (by decide) q209 rfl (Or.inl rfl) (fun h => sh_k1 h 0 rfl) (fun _ => rfl) (fun _ => rfl) ⟨⟨rfl, rfl⟩, rfl⟩ (fun _ hb => up2_same hb) (fun _ _ => rfl) (fun _ _ => rfl) (put_i (fun _ _ _ => rfl)) (fun h => Sh_si h) dX1_tollOf_88 ?_
        refine J_ltM (fun M11 => ?_)
        refine J_aload_n (pc := 91) dX1_tollOf_91 rfl ?_
        refine J_iload (pc := 92) dX1_tollOf_92 rfl ?_
        refine J_put (pc := 94) (a := 20) (v := .int v4) (M' := M11.si 20 35 v4) (c := 0) rfl in_X1 tyX1_ok fnX1 35 (by decide) q217 rfl (Or.inl rfl) (fun h => sh_k1 h 0 rfl) (fun _ => rfl) (fun _ => rfl) ⟨⟨rfl, rfl⟩, rfl⟩ (fun _ hb => up2_same hb) (fun _ _ => rfl) (fun _ _ => rfl) (put_i (fun _ _ _ => rfl)) (fun h => Sh_si h) dX1_tollOf_94 ?_
        refine J_ltM (fun M12 => ?_)
        refine J_aload_n (pc := 97) dX1_tollOf_97 rfl ?_
        refine J_iload (pc := 98) dX1_tollOf_98 rfl ?_
        refine J_jn (P := fun J => ∀ (v8 : Int32) (M13 : PM), T_x_tollOf G  M13 137 [some (.ref 20), some (.int c1), none, none, some (.int v3), some (.int v4), some (.int v5), none] [.int v8, .ref 20] (J v8 M13)) (fun v8 M13 => ?_) (fun j2 hj2 => ?_)
        · refine J_put (pc := 137) (a := 20) (v := .int v8) (M' := M13.si 20 37 v8) (c := 0) rfl in_X1 tyX1_ok fnX1 37 (by decide) q221 rfl (Or.inl rfl) (fun h => sh_k1 h 0 rfl) (fun _ => rfl) (fun _ => rfl) ⟨⟨rfl, rfl⟩, rfl⟩ (fun _ hb => up2_same hb) (fun _ _ => rfl) (fun _ _ => rfl) (put_i (fun _ _ _ => rfl)) (fun h => Sh_si h) dX1_tollOf_137 ?_
          refine J_ltM (fun M14 => ?_)
          refine J_aload_n (pc := 140) dX1_tollOf_140 rfl ?_
          refine J_getO (pc := 141) (c := 0) rfl in_X1 38 (by decide) q222 rfl (fun h => sh_k1 h 0 rfl) (fun _ _ => fv_rf (Or.inl ⟨_, rfl⟩)) dX1_tollOf_141 (fun r1 => ?_)
          refine J_jn (P := fun J => ∀ (v9 : Int32) (M15 : PM), T_x_tollOf G  M15 170 [some (.ref 20), some (.int c1), none, none, some (.int v3), some (.int v4), some (.int v5), none] [.int v9] (J v9 M15)) (fun v9 M15 => ?_) (fun j3 hj3 => ?_)
          · refine J_istore (pc := 170) dX1_tollOf_170 (by decide) ?_
            refine J_aload_n (pc := 172) dX1_tollOf_172 rfl ?_
            refine J_get (pc := 173) (c := 0) (.ref 50) rfl in_X1 40 (by decide) q224 rfl (fun h => sh_k1 h 0 rfl) (fun h _ => fv_ref (Or.inr ⟨_, rfl⟩) (sh_r h 29 rfl)) dX1_tollOf_173 ?_
            refine J_iload (pc := 176) dX1_tollOf_176 rfl ?_
            refine J_dup2 (pc := 178) dX1_tollOf_178 rfl rfl ?_
            refine J_ck (fun h5 => ?_)
            refine J_iald (pc := 179) (a := 50) (fun h => sh_a h 30 rfl h5) dX1_tollOf_179 ?_
            refine J_iload (pc := 180) dX1_tollOf_180 rfl ?_
            refine J_iadd (pc := 182) dX1_tollOf_182 ?_
            refine J_ck (fun h6 => ?_)
            refine J_iast (pc := 183) (a := 50) (fun h => sh_a h 30 rfl h6) (fun h => Sh_si h) dX1_tollOf_183 ?_
            refine J_ltM (fun M16 => ?_)
            refine J_iload (pc := 184) dX1_tollOf_184 rfl ?_
            refine J_iload (pc := 186) dX1_tollOf_186 rfl ?_
            refine J_iadd (pc := 188) dX1_tollOf_188 ?_
            refine J_lt (β := Int32) (v := (v3 + v9)) (L := fun _ => _) (S := fun v10 => [.int v10]) (fun v10 => ?_)
            refine J_istore (pc := 189) dX1_tollOf_189 (by decide) ?_
            refine J_aload_n (pc := 191) dX1_tollOf_191 rfl ?_
            refine J_dup (pc := 192) dX1_tollOf_192 rfl ?_
            refine J_get (pc := 193) (c := 0) (.int (M16.i 20 36)) rfl in_X1 36 (by decide) q219 rfl (fun h => sh_k1 h 0 rfl) (fun _ _ => rfl) dX1_tollOf_193 ?_
            refine J_iconst (pc := 196) 1 dX1_tollOf_196 (by decide) ?_
            refine J_iadd (pc := 197) dX1_tollOf_197 ?_
            refine J_put (pc := 198) (a := 20) (v := .int ((M16.i 20 36) + 1)) (M' := M16.si 20 36 ((M16.i 20 36) + 1)) (c := 0) rfl in_X1 tyX1_ok fnX1 36 (by decide) q219 rfl (Or.inl rfl) (fun h => sh_k1 h 0 rfl) (fun _ => rfl) (fun _ => rfl) ⟨⟨rfl, rfl⟩, rfl⟩ (fun _ hb => up2_same hb) (fun _ _ => rfl) (fun _ _ => rfl) (put_i (fun _ _ _ => rfl)) (fun h => Sh_si h) dX1_tollOf_198 ?_
            refine J_ltM (fun M17 => ?_)
            exact J_sub (A := [some (.ref 20), some (.int c1), none, none, some (.int v10), some (.int v4), none, none]) ⟨rfl, ⟨rfl, ⟨rfl, ⟨rfl, trivial⟩⟩⟩⟩ (hj1 v10 M17)
          refine J_ifnonnullE (pc := 144) (r := r1) 154 dX1_tollOf_144 rfl (fun ea1 => ?_) (fun a1 ea1 => ?_)
          · subst ea1
            refine J_iload (pc := 147) dX1_tollOf_147 rfl ?_
            refine J_iconst (pc := 149) 1 dX1_tollOf_149 (by decide) ?_
            refine J_iadd (pc := 150) dX1_tollOf_150 ?_
            refine J_goto (pc := 151) 170 dX1_tollOf_151 rfl ?_
            exact J_sub (A := [some (.ref 20), some (.int c1), none, none, some (.int v3), some (.int v4), some (.int v5), none]) ⟨rfl, ⟨rfl, ⟨rfl, ⟨rfl, ⟨rfl, trivial⟩⟩⟩⟩⟩ (hj3 (v5 + 1) M14)
          · subst ea1
            refine J_iconst (pc := 154) 0 dX1_tollOf_154 (by decide) ?_
            refine J_bipush (pc := 155) 99 dX1_tollOf_155 (by decide) ?_
            refine J_aload_n (pc := 157) dX1_tollOf_157 rfl ?_
            refine J_getO (pc := 158) (c := 0) rfl in_X1 38 (by decide) q222 rfl (fun h => sh_k1 h 0 rfl) (fun _ _ => fv_rf (Or.inl ⟨_, rfl⟩)) dX1_tollOf_158 (fun r2 => ?_)
            refine J_rfe (fun a2 ea2 => ?_)
            subst ea2
            refine J_value (pc := 161) v_VC q691 (by omega) (Nat.le_of_ble_eq_true rfl) dX1_tollOf_161 (fun v11 M18 => ?_)
            refine J_min (pc := 164) (by omega) q409 q410 q119 q411 (Nat.le_of_ble_eq_true rfl) dX1_tollOf_164 ?_
            refine J_max (pc := 167) (by omega) q564 q454 q119 q455 (Nat.le_of_ble_eq_true rfl) dX1_tollOf_167 ?_
            exact J_sub (A := [some (.ref 20), some (.int c1), none, none, some (.int v3), some (.int v4), some (.int v5), none]) ⟨rfl, ⟨rfl, ⟨rfl, ⟨rfl, ⟨rfl, trivial⟩⟩⟩⟩⟩ (hj3 (imax 0 (imin 99 v11)) M18)
        refine J_if_le (pc := 100) 136 dX1_tollOf_100 rfl (fun h => if_pos h) (fun h => if_neg h) (fun _ => ?_) (fun _ => ?_)
        · refine J_iconst (pc := 136) 0 dX1_tollOf_136 (by decide) ?_
          exact J_sub (A := [some (.ref 20), some (.int c1), none, none, some (.int v3), some (.int v4), some (.int v5), none]) ⟨rfl, ⟨rfl, ⟨rfl, ⟨rfl, ⟨rfl, trivial⟩⟩⟩⟩⟩ (hj2 0 M12)
        · refine J_aload_n (pc := 103) dX1_tollOf_103 rfl ?_
          refine J_get (pc := 104) (c := 0) (.ref 31) rfl in_X1 2 (by decide) q179 rfl (fun h => sh_k1 h 0 rfl) (fun h _ => fv_ref (Or.inr ⟨_, rfl⟩) (sh_r h 10 rfl)) dX1_tollOf_104 ?_
          refine J_bipush (pc := 107) 6 dX1_tollOf_107 (by decide) ?_
          refine J_iload_n (pc := 109) dX1_tollOf_109 rfl ?_
          refine J_imul (pc := 110) dX1_tollOf_110 ?_
          refine J_iload (pc := 111) dX1_tollOf_111 rfl ?_
          refine J_iadd (pc := 113) dX1_tollOf_113 ?_
          refine J_ck (fun h8 => ?_)
          refine J_iald (pc := 114) (a := 31) (fun h => sh_a h 11 rfl h8) dX1_tollOf_114 ?_
          refine J_aload_n (pc := 115) dX1_tollOf_115 rfl ?_
          refine J_get (pc := 116) (c := 0) (.ref 31) rfl in_X1 2 (by decide) q179 rfl (fun h => sh_k1 h 0 rfl) (fun h _ => fv_ref (Or.inr ⟨_, rfl⟩) (sh_r h 10 rfl)) dX1_tollOf_116 ?_
          refine J_bipush (pc := 119) 6 dX1_tollOf_119 (by decide) ?_
          refine J_iload_n (pc := 121) dX1_tollOf_121 rfl ?_
          refine J_imul (pc := 122) dX1_tollOf_122 ?_
          refine J_iload (pc := 123) dX1_tollOf_123 rfl ?_
          refine J_iadd (pc := 125) dX1_tollOf_125 ?_
          refine J_iconst (pc := 126) 1 dX1_tollOf_126 (by decide) ?_
          refine J_isub (pc := 127) dX1_tollOf_127 ?_
          refine J_ck (fun h9 => ?_)
          refine J_iald (pc := 128) (a := 31) (fun h => sh_a h 11 rfl h9) dX1_tollOf_128 ?_
          refine J_icmp_ne (pc := 129) 136 dX1_tollOf_129 rfl (fun h => if_neg h) (fun h => if_pos h) (fun _ => ?_) (fun _ => ?_)
          · refine J_iconst (pc := 136) 0 dX1_tollOf_136 (by decide) ?_
            exact J_sub (A := [some (.ref 20), some (.int c1), none, none, some (.int v3), some (.int v4), some (.int v5), none]) ⟨rfl, ⟨rfl, ⟨rfl, ⟨rfl, ⟨rfl, trivial⟩⟩⟩⟩⟩ (hj2 0 M12)
          · refine J_iconst (pc := 132) 1 dX1_tollOf_132 (by decide) ?_
            refine J_goto (pc := 133) 137 dX1_tollOf_133 rfl ?_
            exact J_sub (A := [some (.ref 20), some (.int c1), none, none, some (.int v3), some (.int v4), some (.int v5), none]) ⟨rfl, ⟨rfl, ⟨rfl, ⟨rfl, ⟨rfl, trivial⟩⟩⟩⟩⟩ (hj2 1 M12)
      · refine J_goto (pc := 82) 201 dX1_tollOf_82 rfl ?_
        exact J_sub (A := [some (.ref 20), some (.int c1), none, none, some (.int v3), some (.int v4), none, none]) ⟨rfl, ⟨rfl, ⟨rfl, ⟨rfl, trivial⟩⟩⟩⟩ (hj1 v3 M9)

def x_tollOf (p1 : Int32) (p2 : Int32) (p3 : Int32) (M : PM) : Option (Int32 × PM) :=
    lt (M.si 20 32 p2) fun M1 =>
    ckb (¬ (24 : Int32) = 0) <|
    lt (M1.si 20 33 (p3 - p3 / 24 * 24)) fun M2 =>
    ck p1 10 <|
    lt (M2.si 20 34 (M2.i 32 (ix p1))) fun M3 =>
    lt (M3.si 20 36 0) fun M4 =>
    x_tollOf_L34 p1 0 (fun (M7 : PM) =>
    x_tollOf_L57 p1 FU 0 0 M7) FU 0 M4

set_option maxHeartbeats 4000000 in
theorem t_x_tollOf (G : JG) (p1 : Int32) (p2 : Int32) (p3 : Int32) (M : PM) : T_x_tollOf G  M 0 (ent [.ref 20, .int p1, .int p2, .int p3] 8) [] (x_tollOf p1 p2 p3 M) := by
  unfold x_tollOf
  refine J_iconst (pc := 0) 0 dX1_tollOf_0 (by decide) ?_
  refine J_istore (pc := 1) dX1_tollOf_1 (by decide) ?_
  refine J_aload_n (pc := 3) dX1_tollOf_3 rfl ?_
  refine J_iload_n (pc := 4) dX1_tollOf_4 rfl ?_
  refine J_put (pc := 5) (a := 20) (v := .int p2) (M' := M.si 20 32 p2) (c := 0) rfl in_X1 tyX1_ok fnX1 32 (by decide) q211 rfl (Or.inl rfl) (fun h => sh_k1 h 0 rfl) (fun _ => rfl) (fun _ => rfl) ⟨⟨rfl, rfl⟩, rfl⟩ (fun _ hb => up2_same hb) (fun _ _ => rfl) (fun _ _ => rfl) (put_i (fun _ _ _ => rfl)) (fun h => Sh_si h) dX1_tollOf_5 ?_
  refine J_ltM (fun M1 => ?_)
  refine J_aload_n (pc := 8) dX1_tollOf_8 rfl ?_
  refine J_iload_n (pc := 9) dX1_tollOf_9 rfl ?_
  refine J_bipush (pc := 10) 24 dX1_tollOf_10 (by decide) ?_
  refine J_ckb (fun h1 => ?_)
  refine J_irem (pc := 12) dX1_tollOf_12 h1 ?_
  refine J_put (pc := 13) (a := 20) (v := .int (p3 - p3 / 24 * 24)) (M' := M1.si 20 33 (p3 - p3 / 24 * 24)) (c := 0) rfl in_X1 tyX1_ok fnX1 33 (by decide) q213 rfl (Or.inl rfl) (fun h => sh_k1 h 0 rfl) (fun _ => rfl) (fun _ => rfl) ⟨⟨rfl, rfl⟩, rfl⟩ (fun _ hb => up2_same hb) (fun _ _ => rfl) (fun _ _ => rfl) (put_i (fun _ _ _ => rfl)) (fun h => Sh_si h) dX1_tollOf_13 ?_
  refine J_ltM (fun M2 => ?_)
  refine J_aload_n (pc := 16) dX1_tollOf_16 rfl ?_
  refine J_aload_n (pc := 17) dX1_tollOf_17 rfl ?_
  refine J_get (pc := 18) (c := 0) (.ref 32) rfl in_X1 3 (by decide) q180 rfl (fun h => sh_k1 h 0 rfl) (fun h _ => fv_ref (Or.inr ⟨_, rfl⟩) (sh_r h 11 rfl)) dX1_tollOf_18 ?_
  refine J_iload_n (pc := 21) dX1_tollOf_21 rfl ?_
  refine J_ck (fun h2 => ?_)
  refine J_iald (pc := 22) (a := 32) (fun h => sh_a h 12 rfl h2) dX1_tollOf_22 ?_
  refine J_put (pc := 23) (a := 20) (v := .int (M2.i 32 (ix p1))) (M' := M2.si 20 34 (M2.i 32 (ix p1))) (c := 0) rfl in_X1 tyX1_ok fnX1 34 (by decide) q215 rfl (Or.inl rfl) (fun h => sh_k1 h 0 rfl) (fun _ => rfl) (fun _ => rfl) ⟨⟨rfl, rfl⟩, rfl⟩ (fun _ hb => up2_same hb) (fun _ _ => rfl) (fun _ _ => rfl) (put_i (fun _ _ _ => rfl)) (fun h => Sh_si h) dX1_tollOf_23 ?_
  refine J_ltM (fun M3 => ?_)
  refine J_aload_n (pc := 26) dX1_tollOf_26 rfl ?_
  refine J_iconst (pc := 27) 0 dX1_tollOf_27 (by decide) ?_
  refine J_put (pc := 28) (a := 20) (v := .int 0) (M' := M3.si 20 36 0) (c := 0) rfl in_X1 tyX1_ok fnX1 36 (by decide) q219 rfl (Or.inl rfl) (fun h => sh_k1 h 0 rfl) (fun _ => rfl) (fun _ => rfl) ⟨⟨rfl, rfl⟩, rfl⟩ (fun _ hb => up2_same hb) (fun _ _ => rfl) (fun _ _ => rfl) (put_i (fun _ _ _ => rfl)) (fun h => Sh_si h) dX1_tollOf_28 ?_
  refine J_ltM (fun M4 => ?_)
  refine J_iconst (pc := 31) 0 dX1_tollOf_31 (by decide) ?_
  refine J_istore (pc := 32) dX1_tollOf_32 (by decide) ?_
  refine J_sub (A := [some (.ref 20), some (.int p1), none, none, some (.int 0), some (.int 0), none, none]) ⟨rfl, ⟨rfl, ⟨rfl, ⟨rfl, trivial⟩⟩⟩⟩ (t_x_tollOf_L34 G p1 0 _ ?_ FU 0 M4)
  · intro M7
    refine J_iconst (pc := 54) 0 dX1_tollOf_54 (by decide) ?_
    refine J_istore (pc := 55) dX1_tollOf_55 (by decide) ?_
    refine J_sub (A := [some (.ref 20), some (.int p1), none, none, some (.int 0), some (.int 0), none, none]) ⟨rfl, ⟨rfl, ⟨rfl, ⟨rfl, trivial⟩⟩⟩⟩ (t_x_tollOf_L57 G p1  FU 0 0 M7)

theorem C_x_tollOf (l : Launch) (p1 : Int32) (p2 : Int32) (p3 : Int32) (M : PM) : Ctr l Sh yX1_tollOf cX1_tollOf 8 (some .int) 141 rvI [.ref 20, .int p1, .int p2, .int p3] M (x_tollOf p1 p2 p3 M) := Ctr.of (by decide +kernel) (Nat.le_of_ble_eq_true rfl) (fun G => t_x_tollOf G p1 p2 p3 M)

abbrev T_x_toll (G : JG) (M : PM) (pc : Nat) (L : List (Option Value)) (S : List Value) (o : Option (Int32 × PM)) : Prop := JJ G cX1_toll yX1_toll 5 142 (some .int) Sh (finR G Sh rvI) M pc L S o
def x_toll_L40 (c3 : Int32) : Nat → Int32 → PM → Option (Int32 × PM)
  | 0, _, _ => none
  | n + 1, v4, M5 =>
    if 5 ≤ v4 then (some (c3, M5))
    else (ck v4 5 <|
    bd (x_tells (Int32.toInt64 (M5.i 50 (ix v4))) M5) fun _ M6 =>
    lt (v4 + 1) fun v5 =>
    x_toll_L40 c3 n v5 M6)

set_option maxHeartbeats 4000000 in
theorem t_x_toll_L40 (G : JG) (c3 : Int32) : ∀ (n : Nat) (v4 : Int32) (M5 : PM), T_x_toll G  M5 40 [some (.ref 20), none, none, some (.int c3), some (.int v4)] [] (x_toll_L40 c3 n v4 M5) := by
  intro n
  induction n with
  | zero =>
    intro v4 M5
    exact J_none
  | succ n ih =>
    intro v4 M5
    rw [x_toll_L40]
    refine J_iload (pc := 40) dX1_toll_40 rfl ?_
    refine J_iconst (pc := 42) 5 dX1_toll_42 (by decide) ?_
    refine J_icmp_ge (pc := 43) 64 dX1_toll_43 rfl (fun h => if_pos h) (fun h => if_neg h) (fun _ => ?_) (fun _ => ?_)
    · refine J_iload_n (pc := 64) dX1_toll_64 rfl ?_
      exact J_iret (pc := 65) dX1_toll_65
    · refine J_aload_n (pc := 46) dX1_toll_46 rfl ?_
      refine J_aload_n (pc := 47) dX1_toll_47 rfl ?_
      refine J_get (pc := 48) (c := 0) (.ref 50) rfl in_X1 40 (by decide) q224 rfl (fun h => sh_k1 h 0 rfl) (fun h _ => fv_ref (Or.inr ⟨_, rfl⟩) (sh_r h 29 rfl)) dX1_toll_48 ?_
      refine J_iload (pc := 51) dX1_toll_51 rfl ?_
      refine J_ck (fun h1 => ?_)
      refine J_iald (pc := 53) (a := 50) (fun h => sh_a h 30 rfl h1) dX1_toll_53 ?_
      refine J_i2l (pc := 54) dX1_toll_54 ?_
      refine J_callV (pc := 55) (n := 1) (b := 20) (vs := [.long (Int32.toInt64 (M5.i 50 (ix v4)))]) (ci := 0) (fun l => C_x_tells l (Int32.toInt64 (M5.i 50 (ix v4))) M5) (lw_V q708 q710 qs20 q116 q711) nmv_X1_tells rfl (by omega) (by decide) rfl (fun h => sh_k1 h 0 rfl) rfl (Nat.le_of_ble_eq_true rfl) dX1_toll_55 (fun _ M6 => ?_)
      refine J_iincL (pc := 58) (n := 1) (by decide) dX1_toll_58 rfl (by decide) (fun v5 => ?_)
      refine J_goto (pc := 61) 40 dX1_toll_61 rfl ?_
      exact J_sub (A := [some (.ref 20), none, none, some (.int c3), some (.int v5)]) ⟨rfl, ⟨rfl, ⟨rfl, trivial⟩⟩⟩ (ih v5 M6)

def x_toll (p1 : Int32) (p2 : Int32) (M : PM) : Option (Int32 × PM) :=
    bd (x_isWord p1 M) fun v1 M1 =>
    if v1 = 0 then (some ((-1), M1))
    else (bd (x_isStation p2 M1) fun v2 M2 =>
    if v2 = 0 then (some ((-1), M2))
    else (bd (x_tollOf p1 p2 (M2.i 21 4) M2) fun v3 M3 =>
    lt (M3.si 20 67 0) fun M4 =>
    x_toll_L40 v3 FU 0 M4))

set_option maxHeartbeats 4000000 in
theorem t_x_toll (G : JG) (p1 : Int32) (p2 : Int32) (M : PM) : T_x_toll G  M 0 (ent [.ref 20, .int p1, .int p2] 5) [] (x_toll p1 p2 M) := by
  unfold x_toll
  refine J_aload_n (pc := 0) dX1_toll_0 rfl ?_
  refine J_iload_n (pc := 1) dX1_toll_1 rfl ?_
  refine J_callV (pc := 2) (n := 1) (b := 20) (vs := [.int p1]) (ci := 0) (fun l => C_x_isWord l p1 M) (lw_V q674 q676 qs16 q116 q677) nmv_X1_isWord rfl (by omega) (by decide) rfl (fun h => sh_k1 h 0 rfl) rfl (Nat.le_of_ble_eq_true rfl) dX1_toll_2 (fun v1 M1 => ?_)
  refine J_if_eq (pc := 5) 16 dX1_toll_5 rfl (fun h => if_pos h) (fun h => if_neg h) (fun _ => ?_) (fun _ => ?_)
  · refine J_iconst (pc := 16) (-1) dX1_toll_16 (by decide) ?_
    exact J_iret (pc := 17) dX1_toll_17
  · refine J_aload_n (pc := 8) dX1_toll_8 rfl ?_
    refine J_iload_n (pc := 9) dX1_toll_9 rfl ?_
    refine J_callV (pc := 10) (n := 1) (b := 20) (vs := [.int p2]) (ci := 0) (fun l => C_x_isStation l p2 M1) (lw_V q678 q680 qs17 q116 q681) nmv_X1_isStation rfl (by omega) (by decide) rfl (fun h => sh_k1 h 0 rfl) rfl (Nat.le_of_ble_eq_true rfl) dX1_toll_10 (fun v2 M2 => ?_)
    refine J_if_ne (pc := 13) 18 dX1_toll_13 rfl (fun h => if_neg h) (fun h => if_pos h) (fun _ => ?_) (fun _ => ?_)
    · refine J_aload_n (pc := 18) dX1_toll_18 rfl ?_
      refine J_iload_n (pc := 19) dX1_toll_19 rfl ?_
      refine J_iload_n (pc := 20) dX1_toll_20 rfl ?_
      refine J_aload_n (pc := 21) dX1_toll_21 rfl ?_
      refine J_get (pc := 22) (c := 0) (.ref 21) rfl in_X1 0 (by decide) q177 rfl (fun h => sh_k1 h 0 rfl) (fun h _ => fv_ref (Or.inl ⟨_, rfl⟩) (sh_r h 4 rfl)) dX1_toll_22 ?_
      refine J_getN (host := "TollOnVowels") (pc := 25) (c := 1) (.int (M2.i 21 4)) rfl in_X2 4 (by decide) (by decide +kernel) rfl (fun h => sh_k1 h 1 rfl) (fun _ _ => rfl) dX1_toll_25 ?_
      refine J_callV (pc := 28) (n := 3) (b := 20) (vs := [.int p1, .int p2, .int (M2.i 21 4)]) (ci := 0) (fun l => C_x_tollOf l p1 p2 (M2.i 21 4) M2) (lw_V q682 q684 qs18 q116 q685) nmv_X1_tollOf rfl (by omega) (by decide) rfl (fun h => sh_k1 h 0 rfl) rfl (Nat.le_of_ble_eq_true rfl) dX1_toll_28 (fun v3 M3 => ?_)
      refine J_istore_n (pc := 31) dX1_toll_31 (by decide) ?_
      refine J_aload_n (pc := 32) dX1_toll_32 rfl ?_
      refine J_iconst (pc := 33) 0 dX1_toll_33 (by decide) ?_
      refine J_put (pc := 34) (a := 20) (v := .int 0) (M' := M3.si 20 67 0) (c := 0) rfl in_X1 tyX1_ok fnX1 67 (by decide) q251 rfl (Or.inl rfl) (fun h => sh_k1 h 0 rfl) (fun _ => rfl) (fun _ => rfl) ⟨⟨rfl, rfl⟩, rfl⟩ (fun _ hb => up2_same hb) (fun _ _ => rfl) (fun _ _ => rfl) (put_i (fun _ _ _ => rfl)) (fun h => Sh_si h) dX1_toll_34 ?_
      refine J_ltM (fun M4 => ?_)
      refine J_iconst (pc := 37) 0 dX1_toll_37 (by decide) ?_
      refine J_istore (pc := 38) dX1_toll_38 (by decide) ?_
      refine J_sub (A := [some (.ref 20), none, none, some (.int v3), some (.int 0)]) ⟨rfl, ⟨rfl, ⟨rfl, trivial⟩⟩⟩ (t_x_toll_L40 G v3  FU 0 M4)
    · refine J_iconst (pc := 16) (-1) dX1_toll_16 (by decide) ?_
      exact J_iret (pc := 17) dX1_toll_17

theorem C_x_toll (l : Launch) (p1 : Int32) (p2 : Int32) (M : PM) : Ctr l Sh yX1_toll cX1_toll 5 (some .int) 142 rvI [.ref 20, .int p1, .int p2] M (x_toll p1 p2 M) := Ctr.of (by decide +kernel) (Nat.le_of_ble_eq_true rfl) (fun G => t_x_toll G p1 p2 M)

abbrev T_x_putsBy (G : JG) (M : PM) (pc : Nat) (L : List (Option Value)) (S : List Value) (o : Option (Unit × PM)) : Prop := JJ G cX1_putsBy yX1_putsBy 4 2 none Sh (finR G Sh rvU) M pc L S o
def x_putsBy_L18 (c1 : Nat) (c2 : Option Nat) (k44 : PM → Option (Unit × PM)) : Nat → Int32 → PM → Option (Unit × PM)
  | 0, _, _ => none
  | n + 1, v1, M8 =>
    if 12 ≤ v1 then (k44 M8)
    else (ck v1 12 <|
    lt (M8.r 51 (ix v1)) fun r4 =>
    rf r4 fun a3 =>
    ck (v1 - 1) 12 <|
    ckk M8 a3 1 <|
    lt (M8.sr 51 (ix (v1 - 1)) (some a3)) fun M9 =>
    lt (v1 + 1) fun v2 =>
    x_putsBy_L18 c1 c2 k44 n v2 M9)

set_option maxHeartbeats 4000000 in
theorem t_x_putsBy_L18 (G : JG) (c1 : Nat) (c2 : Option Nat) (k44 : PM → Option (Unit × PM)) (hk44 : ∀ Me, T_x_putsBy G  Me 44 [some (.ref 20), some (.ref c1), some (va_rf c2), none] [] (k44 Me)) : ∀ (n : Nat) (v1 : Int32) (M8 : PM), T_x_putsBy G  M8 18 [some (.ref 20), some (.ref c1), some (va_rf c2), some (.int v1)] [] (x_putsBy_L18 c1 c2 k44 n v1 M8) := by
  intro n
  induction n with
  | zero =>
    intro v1 M8
    exact J_none
  | succ n ih =>
    intro v1 M8
    rw [x_putsBy_L18]
    refine J_iload_n (pc := 18) dX1_putsBy_18 rfl ?_
    refine J_bipush (pc := 19) 12 dX1_putsBy_19 (by decide) ?_
    refine J_icmp_ge (pc := 21) 44 dX1_putsBy_21 rfl (fun h => if_pos h) (fun h => if_neg h) (fun _ => ?_) (fun _ => ?_)
    · exact J_sub (A := [some (.ref 20), some (.ref c1), some (va_rf c2), none]) ⟨rfl, ⟨rfl, ⟨(by first | rfl | simp only [kill2_rf]), trivial⟩⟩⟩ (hk44 M8)
    · refine J_aload_n (pc := 24) dX1_putsBy_24 rfl ?_
      refine J_get (pc := 25) (c := 0) (.ref 51) rfl in_X1 41 (by decide) q225 rfl (fun h => sh_k1 h 0 rfl) (fun h _ => fv_ref (Or.inr ⟨_, rfl⟩) (sh_r h 30 rfl)) dX1_putsBy_25 ?_
      refine J_iload_n (pc := 28) dX1_putsBy_28 rfl ?_
      refine J_iconst (pc := 29) 1 dX1_putsBy_29 (by decide) ?_
      refine J_isub (pc := 30) dX1_putsBy_30 ?_
      refine J_aload_n (pc := 31) dX1_putsBy_31 rfl ?_
      refine J_get (pc := 32) (c := 0) (.ref 51) rfl in_X1 41 (by decide) q225 rfl (fun h => sh_k1 h 0 rfl) (fun h _ => fv_ref (Or.inr ⟨_, rfl⟩) (sh_r h 30 rfl)) dX1_putsBy_32 ?_
      refine J_iload_n (pc := 35) dX1_putsBy_35 rfl ?_
      refine J_ck (fun h7 => ?_)
      refine J_aaldO (pc := 36) (a := 51) (fun h => sh_a h 31 rfl h7) dX1_putsBy_36 (fun r4 => ?_)
      refine J_rfe (fun a3 ea3 => ?_)
      subst ea3
      refine J_ck (fun h8 => ?_)
      refine J_ckk (fun h9 => ?_)
      refine J_aast (pc := 37) (a := 51) (b := a3) (fun h => sh_a h 31 rfl h8) (fun _ => h9) (fun h => Sh_srA h rfl) dX1_putsBy_37 ?_
      refine J_ltM (fun M9 => ?_)
      refine J_iincL (pc := 38) (n := 1) (by decide) dX1_putsBy_38 rfl (by decide) (fun v2 => ?_)
      refine J_goto (pc := 41) 18 dX1_putsBy_41 rfl ?_
      exact J_sub (A := [some (.ref 20), some (.ref c1), some (va_rf c2), some (.int v2)]) ⟨rfl, ⟨rfl, ⟨(by first | rfl | simp only [kill2_rf]), ⟨rfl, trivial⟩⟩⟩⟩ (ih v2 M9)

def x_putsBy (p1 : Nat) (M : PM) : Option (Unit × PM) :=
    jn (fun (M1 : PM) =>
    ck (M1.i 20 43) 12 <|
    lt (M1.r 51 (ix (M1.i 20 43))) fun r1 =>
    jn (fun (M2 : PM) =>
    ck (M2.i 20 43) 12 <|
    lt (M2.r 51 (ix (M2.i 20 43))) fun r2 =>
    rf r2 fun a1 =>
    ckk M2 a1 1 <|
    bd (rd_becomes a1 p1 M2) fun _ M3 =>
    lt (M3.si 20 43 ((M3.i 20 43) + 1)) fun M4 =>
    some ((), M4)) fun j2 =>
    nl r1 (lt (M1.nw 1 0 6) fun M5 =>
    bd (rd_init M1.n M5) fun _ M6 =>
    ck (M1.i 20 43) 12 <|
    ckk M6 M1.n 1 <|
    lt (M6.sr 51 (ix (M1.i 20 43)) (some M1.n)) fun M7 =>
    j2 M7) fun a2 =>
    j2 M1) fun j1 =>
    if (M.i 20 43) = 12 then (ck 0 12 <|
    lt (M.r 51 (ix 0)) fun r3 =>
    x_putsBy_L18 p1 r3 (fun (M10 : PM) =>
    rf r3 fun a4 =>
    ck 11 12 <|
    ckk M10 a4 1 <|
    lt (M10.sr 51 (ix 11) (some a4)) fun M11 =>
    lt (M11.si 20 43 ((M11.i 20 43) - 1)) fun M12 =>
    j1 M12) FU 1 M)
    else (j1 M)

set_option maxHeartbeats 4000000 in
theorem t_x_putsBy (G : JG) (p1 : Nat) (M : PM) : T_x_putsBy G  M 0 (ent [.ref 20, .ref p1] 4) [] (x_putsBy p1 M) := by
  unfold x_putsBy
  refine J_aload_n (pc := 0) dX1_putsBy_0 rfl ?_
  refine J_get (pc := 1) (c := 0) (.int (M.i 20 43)) rfl in_X1 43 (by decide) q227 rfl (fun h => sh_k1 h 0 rfl) (fun _ _ => rfl) dX1_putsBy_1 ?_
  refine J_bipush (pc := 4) 12 dX1_putsBy_4 (by decide) ?_
  refine J_jn (P := fun J => ∀ (M1 : PM), T_x_putsBy G  M1 62 [some (.ref 20), some (.ref p1), none, none] [] (J M1)) (fun M1 => ?_) (fun j1 hj1 => ?_)
  · refine J_aload_n (pc := 62) dX1_putsBy_62 rfl ?_
    refine J_get (pc := 63) (c := 0) (.ref 51) rfl in_X1 41 (by decide) q225 rfl (fun h => sh_k1 h 0 rfl) (fun h _ => fv_ref (Or.inr ⟨_, rfl⟩) (sh_r h 30 rfl)) dX1_putsBy_63 ?_
    refine J_aload_n (pc := 66) dX1_putsBy_66 rfl ?_
    refine J_get (pc := 67) (c := 0) (.int (M1.i 20 43)) rfl in_X1 43 (by decide) q227 rfl (fun h => sh_k1 h 0 rfl) (fun _ _ => rfl) dX1_putsBy_67 ?_
    refine J_ck (fun h1 => ?_)
    refine J_aaldO (pc := 70) (a := 51) (fun h => sh_a h 31 rfl h1) dX1_putsBy_70 (fun r1 => ?_)
    refine J_jn (P := fun J => ∀ (M2 : PM), T_x_putsBy G  M2 90 [some (.ref 20), some (.ref p1), none, none] [] (J M2)) (fun M2 => ?_) (fun j2 hj2 => ?_)
    · refine J_aload_n (pc := 90) dX1_putsBy_90 rfl ?_
      refine J_get (pc := 91) (c := 0) (.ref 51) rfl in_X1 41 (by decide) q225 rfl (fun h => sh_k1 h 0 rfl) (fun h _ => fv_ref (Or.inr ⟨_, rfl⟩) (sh_r h 30 rfl)) dX1_putsBy_91 ?_
      refine J_aload_n (pc := 94) dX1_putsBy_94 rfl ?_
      refine J_get (pc := 95) (c := 0) (.int (M2.i 20 43)) rfl in_X1 43 (by decide) q227 rfl (fun h => sh_k1 h 0 rfl) (fun _ _ => rfl) dX1_putsBy_95 ?_
      refine J_ck (fun h2 => ?_)
      refine J_aaldO (pc := 98) (a := 51) (fun h => sh_a h 31 rfl h2) dX1_putsBy_98 (fun r2 => ?_)
      refine J_aload_n (pc := 99) dX1_putsBy_99 rfl ?_
      refine J_rfe (fun a1 ea1 => ?_)
      subst ea1
      refine J_ckk (fun h3 => ?_)
      refine J_callV (pc := 100) (n := 1) (b := a1) (vs := [.ref p1]) (ci := 1) (fun l => C_rd_becomes l a1 p1 M2) (lw_V q665 q666 q667 q117 q668) nmv_X2_becomes rfl (by omega) (by decide) rfl (fun _ => h3) rfl (Nat.le_of_ble_eq_true rfl) dX1_putsBy_100 (fun _ M3 => ?_)
      refine J_aload_n (pc := 103) dX1_putsBy_103 rfl ?_
      refine J_dup (pc := 104) dX1_putsBy_104 rfl ?_
      refine J_get (pc := 105) (c := 0) (.int (M3.i 20 43)) rfl in_X1 43 (by decide) q227 rfl (fun h => sh_k1 h 0 rfl) (fun _ _ => rfl) dX1_putsBy_105 ?_
      refine J_iconst (pc := 108) 1 dX1_putsBy_108 (by decide) ?_
      refine J_iadd (pc := 109) dX1_putsBy_109 ?_
      refine J_put (pc := 110) (a := 20) (v := .int ((M3.i 20 43) + 1)) (M' := M3.si 20 43 ((M3.i 20 43) + 1)) (c := 0) rfl in_X1 tyX1_ok fnX1 43 (by decide) q227 rfl (Or.inl rfl) (fun h => sh_k1 h 0 rfl) (fun _ => rfl) (fun _ => rfl) ⟨⟨rfl, rfl⟩, rfl⟩ (fun _ hb => up2_same hb) (fun _ _ => rfl) (fun _ _ => rfl) (put_i (fun _ _ _ => rfl)) (fun h => Sh_si h) dX1_putsBy_110 ?_
      refine J_ltM (fun M4 => ?_)
      exact J_ret (pc := 113) dX1_putsBy_113
    refine J_ifnonnullE (pc := 71) (r := r1) 90 dX1_putsBy_71 rfl (fun ea2 => ?_) (fun a2 ea2 => ?_)
    · subst ea2
      refine J_aload_n (pc := 74) dX1_putsBy_74 rfl ?_
      refine J_get (pc := 75) (c := 0) (.ref 51) rfl in_X1 41 (by decide) q225 rfl (fun h => sh_k1 h 0 rfl) (fun h _ => fv_ref (Or.inr ⟨_, rfl⟩) (sh_r h 30 rfl)) dX1_putsBy_75 ?_
      refine J_aload_n (pc := 78) dX1_putsBy_78 rfl ?_
      refine J_get (pc := 79) (c := 0) (.int (M1.i 20 43)) rfl in_X1 43 (by decide) q227 rfl (fun h => sh_k1 h 0 rfl) (fun _ _ => rfl) dX1_putsBy_79 ?_
      refine J_new (pc := 82) (c := 1) rfl in_X2 tyX2_ok q144 q145 q117 df_X2 (fun h => Sh_nw h) dX1_putsBy_82 ?_
      refine J_ltM (fun M5 => ?_)
      refine J_dup (pc := 85) dX1_putsBy_85 rfl ?_
      refine J_callIN (host := "TollOnVowels") (pc := 86) (n := 0) (b := M1.n) (vs := []) (fun l => C_rd_init l M1.n M5) (lw_meth q148) q117 (by decide +kernel) q147 rfl nmh_X2_init rfl (by omega) (by decide) rfl (Nat.le_of_ble_eq_true rfl) dX1_putsBy_86 (fun _u M6 => ?_)
      refine J_ck (fun h4 => ?_)
      refine J_ckk (fun h5 => ?_)
      refine J_aast (pc := 89) (a := 51) (b := M1.n) (fun h => sh_a h 31 rfl h4) (fun _ => h5) (fun h => Sh_srA h rfl) dX1_putsBy_89 ?_
      refine J_ltM (fun M7 => ?_)
      exact J_sub (A := [some (.ref 20), some (.ref p1), none, none]) ⟨rfl, ⟨rfl, trivial⟩⟩ (hj2 M7)
    · subst ea2
      exact J_sub (A := [some (.ref 20), some (.ref p1), none, none]) ⟨rfl, ⟨rfl, trivial⟩⟩ (hj2 M1)
  refine J_icmp_ne (pc := 6) 62 dX1_putsBy_6 rfl (fun h => if_neg h) (fun h => if_pos h) (fun _ => ?_) (fun _ => ?_)
  · exact J_sub (A := [some (.ref 20), some (.ref p1), none, none]) ⟨rfl, ⟨rfl, trivial⟩⟩ (hj1 M)
  · refine J_aload_n (pc := 9) dX1_putsBy_9 rfl ?_
    refine J_get (pc := 10) (c := 0) (.ref 51) rfl in_X1 41 (by decide) q225 rfl (fun h => sh_k1 h 0 rfl) (fun h _ => fv_ref (Or.inr ⟨_, rfl⟩) (sh_r h 30 rfl)) dX1_putsBy_10 ?_
    refine J_iconst (pc := 13) 0 dX1_putsBy_13 (by decide) ?_
    refine J_ck (fun h6 => ?_)
    refine J_aaldO (pc := 14) (a := 51) (fun h => sh_a h 31 rfl h6) dX1_putsBy_14 (fun r3 => ?_)
    refine J_astoreO_n (pc := 15) dX1_putsBy_15 (by decide) ?_
    refine J_iconst (pc := 16) 1 dX1_putsBy_16 (by decide) ?_
    refine J_istore_n (pc := 17) dX1_putsBy_17 (by decide) ?_
    refine J_sub (A := [some (.ref 20), some (.ref p1), some (va_rf r3), some (.int 1)]) ⟨rfl, ⟨rfl, ⟨(by first | rfl | simp only [kill2_rf]), ⟨rfl, trivial⟩⟩⟩⟩ (t_x_putsBy_L18 G p1 r3 _ ?_ FU 1 M)
    · intro M10
      refine J_aload_n (pc := 44) dX1_putsBy_44 rfl ?_
      refine J_get (pc := 45) (c := 0) (.ref 51) rfl in_X1 41 (by decide) q225 rfl (fun h => sh_k1 h 0 rfl) (fun h _ => fv_ref (Or.inr ⟨_, rfl⟩) (sh_r h 30 rfl)) dX1_putsBy_45 ?_
      refine J_bipush (pc := 48) 11 dX1_putsBy_48 (by decide) ?_
      refine J_aloadO_n (pc := 50) dX1_putsBy_50 rfl ?_
      refine J_rfe (fun a4 ea4 => ?_)
      subst ea4
      refine J_ck (fun h10 => ?_)
      refine J_ckk (fun h11 => ?_)
      refine J_aast (pc := 51) (a := 51) (b := a4) (fun h => sh_a h 31 rfl h10) (fun _ => h11) (fun h => Sh_srA h rfl) dX1_putsBy_51 ?_
      refine J_ltM (fun M11 => ?_)
      refine J_aload_n (pc := 52) dX1_putsBy_52 rfl ?_
      refine J_dup (pc := 53) dX1_putsBy_53 rfl ?_
      refine J_get (pc := 54) (c := 0) (.int (M11.i 20 43)) rfl in_X1 43 (by decide) q227 rfl (fun h => sh_k1 h 0 rfl) (fun _ _ => rfl) dX1_putsBy_54 ?_
      refine J_iconst (pc := 57) 1 dX1_putsBy_57 (by decide) ?_
      refine J_isub (pc := 58) dX1_putsBy_58 ?_
      refine J_put (pc := 59) (a := 20) (v := .int ((M11.i 20 43) - 1)) (M' := M11.si 20 43 ((M11.i 20 43) - 1)) (c := 0) rfl in_X1 tyX1_ok fnX1 43 (by decide) q227 rfl (Or.inl rfl) (fun h => sh_k1 h 0 rfl) (fun _ => rfl) (fun _ => rfl) ⟨⟨rfl, rfl⟩, rfl⟩ (fun _ hb => up2_same hb) (fun _ _ => rfl) (fun _ _ => rfl) (put_i (fun _ _ _ => rfl)) (fun h => Sh_si h) dX1_putsBy_59 ?_
      refine J_ltM (fun M12 => ?_)
      exact J_sub (A := [some (.ref 20), some (.ref p1), none, none]) ⟨rfl, ⟨rfl, trivial⟩⟩ (hj1 M12)

theorem C_x_putsBy (l : Launch) (p1 : Nat) (M : PM) : Ctr l Sh yX1_putsBy cX1_putsBy 4 none 2 rvU [.ref 20, .ref p1] M (x_putsBy p1 M) := Ctr.of (by decide +kernel) (Nat.le_of_ble_eq_true rfl) (fun G => t_x_putsBy G p1 M)

abbrev T_x_counts (G : JG) (M : PM) (pc : Nat) (L : List (Option Value)) (S : List Value) (o : Option (Int32 × PM)) : Prop := JJ G cX1_counts yX1_counts 2 3 (some .int) Sh (finR G Sh rvI) M pc L S o
def x_counts (p1 : Int32) (M : PM) : Option (Int32 × PM) :=
    if p1 < 0 then (some (p1, M))
    else (bd (x_putsBy 52 M) fun _ M1 =>
    some (p1, M1))

set_option maxHeartbeats 4000000 in
theorem t_x_counts (G : JG) (p1 : Int32) (M : PM) : T_x_counts G  M 0 (ent [.ref 20, .int p1] 2) [] (x_counts p1 M) := by
  unfold x_counts
  refine J_iload_n (pc := 0) dX1_counts_0 rfl ?_
  refine J_if_lt (pc := 1) 12 dX1_counts_1 rfl (fun h => if_pos h) (fun h => if_neg h) (fun _ => ?_) (fun _ => ?_)
  · refine J_iload_n (pc := 12) dX1_counts_12 rfl ?_
    exact J_iret (pc := 13) dX1_counts_13
  · refine J_aload_n (pc := 4) dX1_counts_4 rfl ?_
    refine J_aload_n (pc := 5) dX1_counts_5 rfl ?_
    refine J_get (pc := 6) (c := 0) (.ref 52) rfl in_X1 42 (by decide) q226 rfl (fun h => sh_k1 h 0 rfl) (fun h _ => fv_ref (Or.inl ⟨_, rfl⟩) (sh_r h 35 rfl)) dX1_counts_6 ?_
    refine J_callV (pc := 9) (n := 1) (b := 20) (vs := [.ref 52]) (ci := 0) (fun l => C_x_putsBy l 52 M) (lw_V q728 q730 qs24 q116 q731) nmv_X1_putsBy rfl (by omega) (by decide) rfl (fun h => sh_k1 h 0 rfl) rfl (Nat.le_of_ble_eq_true rfl) dX1_counts_9 (fun _ M1 => ?_)
    refine J_iload_n (pc := 12) dX1_counts_12 rfl ?_
    exact J_iret (pc := 13) dX1_counts_13

theorem C_x_counts (l : Launch) (p1 : Int32) (M : PM) : Ctr l Sh yX1_counts cX1_counts 2 (some .int) 3 rvI [.ref 20, .int p1] M (x_counts p1 M) := Ctr.of (by decide +kernel) (Nat.le_of_ble_eq_true rfl) (fun G => t_x_counts G p1 M)

abbrev T_x_isTraveller (G : JG) (M : PM) (pc : Nat) (L : List (Option Value)) (S : List Value) (o : Option (Int32 × PM)) : Prop := JJ G cX1_isTraveller yX1_isTraveller 2 2 (some .boolean) Sh (finR G Sh rvI) M pc L S o
def x_isTraveller (p1 : Int32) (M : PM) : Option (Int32 × PM) :=
    bd (x_in (Int32.toInt64 p1) 0 (Int32.toInt64 ((M.i 20 12) - 1)) M) fun v1 M1 =>
    ckb (v1 = 0 ∨ v1 = 1) <|
    some (v1, M1)

set_option maxHeartbeats 4000000 in
theorem t_x_isTraveller (G : JG) (p1 : Int32) (M : PM) : T_x_isTraveller G  M 0 (ent [.ref 20, .int p1] 2) [] (x_isTraveller p1 M) := by
  unfold x_isTraveller
  refine J_iload_n (pc := 0) dX1_isTraveller_0 rfl ?_
  refine J_i2l (pc := 1) dX1_isTraveller_1 ?_
  refine J_lconst (pc := 2) 0 dX1_isTraveller_2 (by decide) ?_
  refine J_aload_n (pc := 3) dX1_isTraveller_3 rfl ?_
  refine J_get (pc := 4) (c := 0) (.int (M.i 20 12)) rfl in_X1 12 (by decide) q189 rfl (fun h => sh_k1 h 0 rfl) (fun _ _ => rfl) dX1_isTraveller_4 ?_
  refine J_iconst (pc := 7) 1 dX1_isTraveller_7 (by decide) ?_
  refine J_isub (pc := 8) dX1_isTraveller_8 ?_
  refine J_i2l (pc := 9) dX1_isTraveller_9 ?_
  refine J_callS (pc := 10) (n := 3) (vs := [.long (Int32.toInt64 p1), .long 0, .long (Int32.toInt64 ((M.i 20 12) - 1))]) (fun l => C_x_in l (Int32.toInt64 p1) 0 (Int32.toInt64 ((M.i 20 12) - 1)) M) (lw_S q398 q399 q116 q400) nmh_X1_in rfl (by omega) (by decide) rfl (Nat.le_of_ble_eq_true rfl) dX1_isTraveller_10 (fun v1 M1 => ?_)
  refine J_ckb (fun h1 => ?_)
  exact J_zret (pc := 13) (nz h1) dX1_isTraveller_13

theorem C_x_isTraveller (l : Launch) (p1 : Int32) (M : PM) : Ctr l Sh yX1_isTraveller cX1_isTraveller 2 (some .boolean) 2 rvI [.ref 20, .int p1] M (x_isTraveller p1 M) := Ctr.of (by decide +kernel) (Nat.le_of_ble_eq_true rfl) (fun G => t_x_isTraveller G p1 M)

abbrev T_x_walks (G : JG) (M : PM) (pc : Nat) (L : List (Option Value)) (S : List Value) (o : Option (Int32 × PM)) : Prop := JJ G cX1_walks yX1_walks 5 3 (some .int) Sh (finR G Sh rvI) M pc L S o
def x_walks (p1 : Nat) (p2 : Int32) (p3 : Int32) (M : PM) : Option (Int32 × PM) :=
    bd (x_isTraveller p2 M) fun v1 M1 =>
    if v1 = 0 then (some ((-1), M1))
    else (bd (x_in (Int32.toInt64 p3) 0 1 M1) fun v2 M2 =>
    if v2 = 0 then (some ((-1), M2))
    else (ckk M2 p1 1 <|
    lt (M2.r p1 0) fun r1 =>
    rf r1 fun a1 =>
    cka M2 a1 20 p2 <|
    lt (if p3 = 1 then 1 else (-1) : Int32) fun v3 =>
    lt ((M2.i a1 (ix p2)) + v3) fun v4 =>
    bd (x_isStation v4 M2) fun v5 M3 =>
    if v5 = 0 then (some ((-2), M3))
    else (ckk M3 p1 1 <|
    lt (M3.r p1 0) fun r2 =>
    rf r2 fun a2 =>
    cka M3 a2 20 p2 <|
    lt (M3.si a2 (ix p2) v4) fun M4 =>
    ckk M4 p1 1 <|
    ckk M4 p1 1 <|
    lt (M4.si p1 4 ((M4.i p1 4) + 1)) fun M5 =>
    some (v4, M5))))

set_option maxHeartbeats 4000000 in
theorem t_x_walks (G : JG) (p1 : Nat) (p2 : Int32) (p3 : Int32) (M : PM) : T_x_walks G  M 0 (ent [.ref 20, .ref p1, .int p2, .int p3] 5) [] (x_walks p1 p2 p3 M) := by
  unfold x_walks
  refine J_aload_n (pc := 0) dX1_walks_0 rfl ?_
  refine J_iload_n (pc := 1) dX1_walks_1 rfl ?_
  refine J_callV (pc := 2) (n := 1) (b := 20) (vs := [.int p2]) (ci := 0) (fun l => C_x_isTraveller l p2 M) (lw_V q720 q722 qs22 q116 q723) nmv_X1_isTraveller rfl (by omega) (by decide) rfl (fun h => sh_k1 h 0 rfl) rfl (Nat.le_of_ble_eq_true rfl) dX1_walks_2 (fun v1 M1 => ?_)
  refine J_if_eq (pc := 5) 18 dX1_walks_5 rfl (fun h => if_pos h) (fun h => if_neg h) (fun _ => ?_) (fun _ => ?_)
  · refine J_iconst (pc := 18) (-1) dX1_walks_18 (by decide) ?_
    exact J_iret (pc := 19) dX1_walks_19
  · refine J_iload_n (pc := 8) dX1_walks_8 rfl ?_
    refine J_i2l (pc := 9) dX1_walks_9 ?_
    refine J_lconst (pc := 10) 0 dX1_walks_10 (by decide) ?_
    refine J_lconst (pc := 11) 1 dX1_walks_11 (by decide) ?_
    refine J_callS (pc := 12) (n := 3) (vs := [.long (Int32.toInt64 p3), .long 0, .long 1]) (fun l => C_x_in l (Int32.toInt64 p3) 0 1 M1) (lw_S q398 q399 q116 q400) nmh_X1_in rfl (by omega) (by decide) rfl (Nat.le_of_ble_eq_true rfl) dX1_walks_12 (fun v2 M2 => ?_)
    refine J_if_ne (pc := 15) 20 dX1_walks_15 rfl (fun h => if_neg h) (fun h => if_pos h) (fun _ => ?_) (fun _ => ?_)
    · refine J_aload_n (pc := 20) dX1_walks_20 rfl ?_
      refine J_ckk (fun h1 => ?_)
      refine J_getNO (host := "TollOnVowels") (pc := 21) (c := 1) rfl in_X2 0 (by decide) (by decide +kernel) rfl (fun _ => h1) (fun _ _ => fv_rf (Or.inr ⟨_, rfl⟩)) dX1_walks_21 (fun r1 => ?_)
      refine J_iload_n (pc := 24) dX1_walks_24 rfl ?_
      refine J_rfe (fun a1 ea1 => ?_)
      subst ea1
      refine J_cka (fun h2 h22 => ?_)
      refine J_iald (pc := 25) (a := a1) (fun _ => ⟨h2, h22⟩) dX1_walks_25 ?_
      refine J_iload_n (pc := 26) dX1_walks_26 rfl ?_
      refine J_iconst (pc := 27) 1 dX1_walks_27 (by decide) ?_
      refine J_ltj (β := Int32) (P := fun J => ∀ v3 : Int32, T_x_walks G M2 36 [some (.ref 20), some (.ref p1), some (.int p2), none, none] [.int v3, .int (M2.i a1 (ix p2))] (J v3)) (fun v3 => ?_) (fun j1 hj1 => ?_)
      · refine J_iadd (pc := 36) dX1_walks_36 ?_
        refine J_lt (β := Int32) (v := ((M2.i a1 (ix p2)) + v3)) (L := fun _ => _) (S := fun v4 => [.int v4]) (fun v4 => ?_)
        refine J_istore (pc := 37) dX1_walks_37 (by decide) ?_
        refine J_aload_n (pc := 39) dX1_walks_39 rfl ?_
        refine J_iload (pc := 40) dX1_walks_40 rfl ?_
        refine J_callV (pc := 42) (n := 1) (b := 20) (vs := [.int v4]) (ci := 0) (fun l => C_x_isStation l v4 M2) (lw_V q678 q680 qs17 q116 q681) nmv_X1_isStation rfl (by omega) (by decide) rfl (fun h => sh_k1 h 0 rfl) rfl (Nat.le_of_ble_eq_true rfl) dX1_walks_42 (fun v5 M3 => ?_)
        refine J_if_ne (pc := 45) 51 dX1_walks_45 rfl (fun h => if_neg h) (fun h => if_pos h) (fun _ => ?_) (fun _ => ?_)
        · refine J_aload_n (pc := 51) dX1_walks_51 rfl ?_
          refine J_ckk (fun h3 => ?_)
          refine J_getNO (host := "TollOnVowels") (pc := 52) (c := 1) rfl in_X2 0 (by decide) (by decide +kernel) rfl (fun _ => h3) (fun _ _ => fv_rf (Or.inr ⟨_, rfl⟩)) dX1_walks_52 (fun r2 => ?_)
          refine J_iload_n (pc := 55) dX1_walks_55 rfl ?_
          refine J_iload (pc := 56) dX1_walks_56 rfl ?_
          refine J_rfe (fun a2 ea2 => ?_)
          subst ea2
          refine J_cka (fun h4 h42 => ?_)
          refine J_iast (pc := 58) (a := a2) (fun _ => ⟨h4, h42⟩) (fun h => Sh_si h) dX1_walks_58 ?_
          refine J_ltM (fun M4 => ?_)
          refine J_aload_n (pc := 59) dX1_walks_59 rfl ?_
          refine J_dup (pc := 60) dX1_walks_60 rfl ?_
          refine J_ckk (fun h5 => ?_)
          refine J_getN (host := "TollOnVowels") (pc := 61) (c := 1) (.int (M4.i p1 4)) rfl in_X2 4 (by decide) (by decide +kernel) rfl (fun _ => h5) (fun _ _ => rfl) dX1_walks_61 ?_
          refine J_iconst (pc := 64) 1 dX1_walks_64 (by decide) ?_
          refine J_iadd (pc := 65) dX1_walks_65 ?_
          refine J_ckk (fun h6 => ?_)
          refine J_putN (host := "TollOnVowels") (pc := 66) (a := p1) (v := .int ((M4.i p1 4) + 1)) (M' := M4.si p1 4 ((M4.i p1 4) + 1)) (c := 1) rfl in_X2 tyX2_ok fnX2 4 (by decide) (by decide +kernel) rfl rfl (fun _ => h6) (fun _ => rfl) (fun _ => rfl) ⟨⟨rfl, rfl⟩, rfl⟩ (fun _ hb => up2_same hb) (fun _ _ => rfl) (fun _ _ => rfl) (put_i (fun _ _ _ => rfl)) (fun h => Sh_si h) dX1_walks_66 ?_
          refine J_ltM (fun M5 => ?_)
          refine J_iload (pc := 69) dX1_walks_69 rfl ?_
          exact J_iret (pc := 71) dX1_walks_71
        · refine J_bipush (pc := 48) (-2) dX1_walks_48 (by decide) ?_
          exact J_iret (pc := 50) dX1_walks_50
      refine J_icmp_ne (pc := 28) 35 dX1_walks_28 rfl (fun h => congrArg j1 (if_neg h)) (fun h => congrArg j1 (if_pos h)) (fun _ => ?_) (fun _ => ?_)
      · refine J_iconst (pc := 35) (-1) dX1_walks_35 (by decide) ?_
        exact J_sub (A := [some (.ref 20), some (.ref p1), some (.int p2), none, none]) ⟨rfl, ⟨rfl, ⟨rfl, trivial⟩⟩⟩ (hj1 (-1))
      · refine J_iconst (pc := 31) 1 dX1_walks_31 (by decide) ?_
        refine J_goto (pc := 32) 36 dX1_walks_32 rfl ?_
        exact J_sub (A := [some (.ref 20), some (.ref p1), some (.int p2), none, none]) ⟨rfl, ⟨rfl, ⟨rfl, trivial⟩⟩⟩ (hj1 1)
    · refine J_iconst (pc := 18) (-1) dX1_walks_18 (by decide) ?_
      exact J_iret (pc := 19) dX1_walks_19

theorem C_x_walks (l : Launch) (p1 : Nat) (p2 : Int32) (p3 : Int32) (M : PM) : Ctr l Sh yX1_walks cX1_walks 5 (some .int) 3 rvI [.ref 20, .ref p1, .int p2, .int p3] M (x_walks p1 p2 p3 M) := Ctr.of (by decide +kernel) (Nat.le_of_ble_eq_true rfl) (fun G => t_x_walks G p1 p2 p3 M)

abbrev T_x_walk (G : JG) (M : PM) (pc : Nat) (L : List (Option Value)) (S : List Value) (o : Option (Int32 × PM)) : Prop := JJ G cX1_walk yX1_walk 3 4 (some .int) Sh (finR G Sh rvI) M pc L S o
def x_walk (p1 : Int32) (p2 : Int32) (M : PM) : Option (Int32 × PM) :=
    bd (rd_becomes 52 21 M) fun _ M1 =>
    bd (x_walks 21 p1 p2 M1) fun v1 M2 =>
    bd (x_counts v1 M2) fun v2 M3 =>
    some (v2, M3)

set_option maxHeartbeats 4000000 in
theorem t_x_walk (G : JG) (p1 : Int32) (p2 : Int32) (M : PM) : T_x_walk G  M 0 (ent [.ref 20, .int p1, .int p2] 3) [] (x_walk p1 p2 M) := by
  unfold x_walk
  refine J_aload_n (pc := 0) dX1_walk_0 rfl ?_
  refine J_get (pc := 1) (c := 0) (.ref 52) rfl in_X1 42 (by decide) q226 rfl (fun h => sh_k1 h 0 rfl) (fun h _ => fv_ref (Or.inl ⟨_, rfl⟩) (sh_r h 35 rfl)) dX1_walk_1 ?_
  refine J_aload_n (pc := 4) dX1_walk_4 rfl ?_
  refine J_get (pc := 5) (c := 0) (.ref 21) rfl in_X1 0 (by decide) q177 rfl (fun h => sh_k1 h 0 rfl) (fun h _ => fv_ref (Or.inl ⟨_, rfl⟩) (sh_r h 4 rfl)) dX1_walk_5 ?_
  refine J_callV (pc := 8) (n := 1) (b := 52) (vs := [.ref 21]) (ci := 1) (fun l => C_rd_becomes l 52 21 M) (lw_V q665 q666 q667 q117 q668) nmv_X2_becomes rfl (by omega) (by decide) rfl (fun h => sh_k1 h 32 rfl) rfl (Nat.le_of_ble_eq_true rfl) dX1_walk_8 (fun _ M1 => ?_)
  refine J_aload_n (pc := 11) dX1_walk_11 rfl ?_
  refine J_aload_n (pc := 12) dX1_walk_12 rfl ?_
  refine J_aload_n (pc := 13) dX1_walk_13 rfl ?_
  refine J_get (pc := 14) (c := 0) (.ref 21) rfl in_X1 0 (by decide) q177 rfl (fun h => sh_k1 h 0 rfl) (fun h _ => fv_ref (Or.inl ⟨_, rfl⟩) (sh_r h 4 rfl)) dX1_walk_14 ?_
  refine J_iload_n (pc := 17) dX1_walk_17 rfl ?_
  refine J_iload_n (pc := 18) dX1_walk_18 rfl ?_
  refine J_callV (pc := 19) (n := 3) (b := 20) (vs := [.ref 21, .int p1, .int p2]) (ci := 0) (fun l => C_x_walks l 21 p1 p2 M1) (lw_V q716 q718 qs21 q116 q719) nmv_X1_walks rfl (by omega) (by decide) rfl (fun h => sh_k1 h 0 rfl) rfl (Nat.le_of_ble_eq_true rfl) dX1_walk_19 (fun v1 M2 => ?_)
  refine J_callV (pc := 22) (n := 1) (b := 20) (vs := [.int v1]) (ci := 0) (fun l => C_x_counts l v1 M2) (lw_V q724 q726 qs23 q116 q727) nmv_X1_counts rfl (by omega) (by decide) rfl (fun h => sh_k1 h 0 rfl) rfl (Nat.le_of_ble_eq_true rfl) dX1_walk_22 (fun v2 M3 => ?_)
  exact J_iret (pc := 25) dX1_walk_25

theorem C_x_walk (l : Launch) (p1 : Int32) (p2 : Int32) (M : PM) : Ctr l Sh yX1_walk cX1_walk 3 (some .int) 4 rvI [.ref 20, .int p1, .int p2] M (x_walk p1 p2 M) := Ctr.of (by decide +kernel) (Nat.le_of_ble_eq_true rfl) (fun G => t_x_walk G p1 p2 M)

abbrev T_x_pause (G : JG) (M : PM) (pc : Nat) (L : List (Option Value)) (S : List Value) (o : Option (Int32 × PM)) : Prop := JJ G cX1_pause yX1_pause 2 3 (some .int) Sh (finR G Sh rvI) M pc L S o
def x_pause (p1 : Int32) (M : PM) : Option (Int32 × PM) :=
    bd (x_in (Int32.toInt64 p1) 0 99 M) fun v1 M1 =>
    if v1 = 0 then (some ((-1), M1))
    else (jn (fun (M2 : PM) =>
    lt (M2.si 21 4 ((M2.i 21 4) + p1)) fun M3 =>
    some ((M3.i 21 4), M3)) fun j1 =>
    if p1 ≤ 0 then (j1 M1)
    else (bd (x_putsBy 21 M1) fun _ M4 =>
    j1 M4))

set_option maxHeartbeats 4000000 in
theorem t_x_pause (G : JG) (p1 : Int32) (M : PM) : T_x_pause G  M 0 (ent [.ref 20, .int p1] 2) [] (x_pause p1 M) := by
  unfold x_pause
  refine J_iload_n (pc := 0) dX1_pause_0 rfl ?_
  refine J_i2l (pc := 1) dX1_pause_1 ?_
  refine J_lconst (pc := 2) 0 dX1_pause_2 (by decide) ?_
  refine J_ldc2 (pc := 3) 99 q736 dX1_pause_3 ?_
  refine J_callS (pc := 6) (n := 3) (vs := [.long (Int32.toInt64 p1), .long 0, .long 99]) (fun l => C_x_in l (Int32.toInt64 p1) 0 99 M) (lw_S q398 q399 q116 q400) nmh_X1_in rfl (by omega) (by decide) rfl (Nat.le_of_ble_eq_true rfl) dX1_pause_6 (fun v1 M1 => ?_)
  refine J_if_ne (pc := 9) 14 dX1_pause_9 rfl (fun h => if_neg h) (fun h => if_pos h) (fun _ => ?_) (fun _ => ?_)
  · refine J_iload_n (pc := 14) dX1_pause_14 rfl ?_
    refine J_jn (P := fun J => ∀ (M2 : PM), T_x_pause G  M2 26 [some (.ref 20), some (.int p1)] [] (J M2)) (fun M2 => ?_) (fun j1 hj1 => ?_)
    · refine J_aload_n (pc := 26) dX1_pause_26 rfl ?_
      refine J_get (pc := 27) (c := 0) (.ref 21) rfl in_X1 0 (by decide) q177 rfl (fun h => sh_k1 h 0 rfl) (fun h _ => fv_ref (Or.inl ⟨_, rfl⟩) (sh_r h 4 rfl)) dX1_pause_27 ?_
      refine J_dup (pc := 30) dX1_pause_30 rfl ?_
      refine J_getN (host := "TollOnVowels") (pc := 31) (c := 1) (.int (M2.i 21 4)) rfl in_X2 4 (by decide) (by decide +kernel) rfl (fun h => sh_k1 h 1 rfl) (fun _ _ => rfl) dX1_pause_31 ?_
      refine J_iload_n (pc := 34) dX1_pause_34 rfl ?_
      refine J_iadd (pc := 35) dX1_pause_35 ?_
      refine J_putN (host := "TollOnVowels") (pc := 36) (a := 21) (v := .int ((M2.i 21 4) + p1)) (M' := M2.si 21 4 ((M2.i 21 4) + p1)) (c := 1) rfl in_X2 tyX2_ok fnX2 4 (by decide) (by decide +kernel) rfl rfl (fun h => sh_k1 h 1 rfl) (fun _ => rfl) (fun _ => rfl) ⟨⟨rfl, rfl⟩, rfl⟩ (fun _ hb => up2_same hb) (fun _ _ => rfl) (fun _ _ => rfl) (put_i (fun _ _ _ => rfl)) (fun h => Sh_si h) dX1_pause_36 ?_
      refine J_ltM (fun M3 => ?_)
      refine J_aload_n (pc := 39) dX1_pause_39 rfl ?_
      refine J_get (pc := 40) (c := 0) (.ref 21) rfl in_X1 0 (by decide) q177 rfl (fun h => sh_k1 h 0 rfl) (fun h _ => fv_ref (Or.inl ⟨_, rfl⟩) (sh_r h 4 rfl)) dX1_pause_40 ?_
      refine J_getN (host := "TollOnVowels") (pc := 43) (c := 1) (.int (M3.i 21 4)) rfl in_X2 4 (by decide) (by decide +kernel) rfl (fun h => sh_k1 h 1 rfl) (fun _ _ => rfl) dX1_pause_43 ?_
      exact J_iret (pc := 46) dX1_pause_46
    refine J_if_le (pc := 15) 26 dX1_pause_15 rfl (fun h => if_pos h) (fun h => if_neg h) (fun _ => ?_) (fun _ => ?_)
    · exact J_sub (A := [some (.ref 20), some (.int p1)]) ⟨rfl, ⟨rfl, trivial⟩⟩ (hj1 M1)
    · refine J_aload_n (pc := 18) dX1_pause_18 rfl ?_
      refine J_aload_n (pc := 19) dX1_pause_19 rfl ?_
      refine J_get (pc := 20) (c := 0) (.ref 21) rfl in_X1 0 (by decide) q177 rfl (fun h => sh_k1 h 0 rfl) (fun h _ => fv_ref (Or.inl ⟨_, rfl⟩) (sh_r h 4 rfl)) dX1_pause_20 ?_
      refine J_callV (pc := 23) (n := 1) (b := 20) (vs := [.ref 21]) (ci := 0) (fun l => C_x_putsBy l 21 M1) (lw_V q728 q730 qs24 q116 q731) nmv_X1_putsBy rfl (by omega) (by decide) rfl (fun h => sh_k1 h 0 rfl) rfl (Nat.le_of_ble_eq_true rfl) dX1_pause_23 (fun _ M4 => ?_)
      exact J_sub (A := [some (.ref 20), some (.int p1)]) ⟨rfl, ⟨rfl, trivial⟩⟩ (hj1 M4)
  · refine J_iconst (pc := 12) (-1) dX1_pause_12 (by decide) ?_
    exact J_iret (pc := 13) dX1_pause_13

theorem C_x_pause (l : Launch) (p1 : Int32) (M : PM) : Ctr l Sh yX1_pause cX1_pause 2 (some .int) 3 rvI [.ref 20, .int p1] M (x_pause p1 M) := Ctr.of (by decide +kernel) (Nat.le_of_ble_eq_true rfl) (fun G => t_x_pause G p1 M)

abbrev T_x_has (G : JG) (M : PM) (pc : Nat) (L : List (Option Value)) (S : List Value) (o : Option (Int32 × PM)) : Prop := JJ G cX1_has yX1_has 2 1 (some .boolean) Sh (finR G Sh rvI) M pc L S o
def x_has (p0 : Int32) (p1 : Int32) (M : PM) : Option (Int32 × PM) :=
    if ((p0 >>> (p1 &&& 31)) &&& 1) = 1 then (some (1, M))
    else (some (0, M))

set_option maxHeartbeats 4000000 in
theorem t_x_has (G : JG) (p0 : Int32) (p1 : Int32) (M : PM) : T_x_has G  M 0 (ent [.int p0, .int p1] 2) [] (x_has p0 p1 M) := by
  unfold x_has
  refine J_iload_n (pc := 0) dX1_has_0 rfl ?_
  refine J_iload_n (pc := 1) dX1_has_1 rfl ?_
  refine J_ishr (pc := 2) dX1_has_2 ?_
  refine J_iconst (pc := 3) 1 dX1_has_3 (by decide) ?_
  refine J_iand (pc := 4) dX1_has_4 ?_
  refine J_iconst (pc := 5) 1 dX1_has_5 (by decide) ?_
  refine J_icmp_ne (pc := 6) 13 dX1_has_6 rfl (fun h => if_neg h) (fun h => if_pos h) (fun _ => ?_) (fun _ => ?_)
  · refine J_iconst (pc := 13) 0 dX1_has_13 (by decide) ?_
    exact J_zret (pc := 14) rfl dX1_has_14
  · refine J_iconst (pc := 9) 1 dX1_has_9 (by decide) ?_
    refine J_goto (pc := 10) 14 dX1_has_10 rfl ?_
    exact J_zret (pc := 14) rfl dX1_has_14

theorem C_x_has (l : Launch) (p0 : Int32) (p1 : Int32) (M : PM) : Ctr l Sh yX1_has cX1_has 2 (some .boolean) 1 rvI [.int p0, .int p1] M (x_has p0 p1 M) := Ctr.of (by decide +kernel) (Nat.le_of_ble_eq_true rfl) (fun G => t_x_has G p0 p1 M)

abbrev T_x_means (G : JG) (M : PM) (pc : Nat) (L : List (Option Value)) (S : List Value) (o : Option (Int32 × PM)) : Prop := JJ G cX1_means yX1_means 3 1 (some .boolean) Sh (finR G Sh rvI) M pc L S o
def x_means (p1 : Int32) (p2 : Int32) (M : PM) : Option (Int32 × PM) :=
    ck p1 10 <|
    if (M.i 33 (ix p1)) = p2 then (some (1, M))
    else (ck p1 10 <|
    if (M.i 34 (ix p1)) = p2 then (some (1, M))
    else (some (0, M)))

set_option maxHeartbeats 4000000 in
theorem t_x_means (G : JG) (p1 : Int32) (p2 : Int32) (M : PM) : T_x_means G  M 0 (ent [.ref 20, .int p1, .int p2] 3) [] (x_means p1 p2 M) := by
  unfold x_means
  refine J_aload_n (pc := 0) dX1_means_0 rfl ?_
  refine J_get (pc := 1) (c := 0) (.ref 33) rfl in_X1 4 (by decide) q181 rfl (fun h => sh_k1 h 0 rfl) (fun h _ => fv_ref (Or.inr ⟨_, rfl⟩) (sh_r h 12 rfl)) dX1_means_1 ?_
  refine J_iload_n (pc := 4) dX1_means_4 rfl ?_
  refine J_ck (fun h1 => ?_)
  refine J_iald (pc := 5) (a := 33) (fun h => sh_a h 13 rfl h1) dX1_means_5 ?_
  refine J_iload_n (pc := 6) dX1_means_6 rfl ?_
  refine J_icmp_eq (pc := 7) 20 dX1_means_7 rfl (fun h => if_pos h) (fun h => if_neg h) (fun _ => ?_) (fun _ => ?_)
  · refine J_iconst (pc := 20) 1 dX1_means_20 (by decide) ?_
    refine J_goto (pc := 21) 25 dX1_means_21 rfl ?_
    exact J_zret (pc := 25) rfl dX1_means_25
  · refine J_aload_n (pc := 10) dX1_means_10 rfl ?_
    refine J_get (pc := 11) (c := 0) (.ref 34) rfl in_X1 5 (by decide) q182 rfl (fun h => sh_k1 h 0 rfl) (fun h _ => fv_ref (Or.inr ⟨_, rfl⟩) (sh_r h 13 rfl)) dX1_means_11 ?_
    refine J_iload_n (pc := 14) dX1_means_14 rfl ?_
    refine J_ck (fun h2 => ?_)
    refine J_iald (pc := 15) (a := 34) (fun h => sh_a h 14 rfl h2) dX1_means_15 ?_
    refine J_iload_n (pc := 16) dX1_means_16 rfl ?_
    refine J_icmp_ne (pc := 17) 24 dX1_means_17 rfl (fun h => if_neg h) (fun h => if_pos h) (fun _ => ?_) (fun _ => ?_)
    · refine J_iconst (pc := 24) 0 dX1_means_24 (by decide) ?_
      exact J_zret (pc := 25) rfl dX1_means_25
    · refine J_iconst (pc := 20) 1 dX1_means_20 (by decide) ?_
      refine J_goto (pc := 21) 25 dX1_means_21 rfl ?_
      exact J_zret (pc := 25) rfl dX1_means_25

theorem C_x_means (l : Launch) (p1 : Int32) (p2 : Int32) (M : PM) : Ctr l Sh yX1_means cX1_means 3 (some .boolean) 1 rvI [.ref 20, .int p1, .int p2] M (x_means p1 p2 M) := Ctr.of (by decide +kernel) (Nat.le_of_ble_eq_true rfl) (fun G => t_x_means G p1 p2 M)

abbrev T_x_doesBy (G : JG) (M : PM) (pc : Nat) (L : List (Option Value)) (S : List Value) (o : Option (Int32 × PM)) : Prop := JJ G cX1_doesBy yX1_doesBy 7 2 (some .int) Sh (finR G Sh rvI) M pc L S o
def x_doesBy_L6 (c1 : Int32) (c2 : Int32) (c3 : Int32) (c4 : Int32) : Nat → Int32 → Int32 → PM → Option (Int32 × PM)
  | 0, _, _, _ => none
  | n + 1, v1, v2, M1 =>
    if (M1.i 20 13) ≤ v2 then (some (v1, M1))
    else (ck v2 8 <|
    jn (fun (v3 : Int32) (M2 : PM) =>
    lt (v1 ||| v3) fun v4 =>
    lt (v2 + 1) fun v5 =>
    x_doesBy_L6 c1 c2 c3 c4 n v4 v5 M2) fun j1 =>
    if (M1.i 35 (ix v2)) = c2 then (ck v2 8 <|
    if (M1.i 37 (ix v2)) = c3 then (bd (x_has c1 v2 M1) fun v6 M3 =>
    if v6 = 0 then (ck v2 8 <|
    bd (x_means c4 (M3.i 36 (ix v2)) M3) fun v7 M4 =>
    if v7 = 0 then (j1 0 M4)
    else (j1 (1 <<< (v2 &&& 31)) M4))
    else (j1 0 M3))
    else (j1 0 M1))
    else (j1 0 M1))

set_option maxHeartbeats 4000000 in
theorem t_x_doesBy_L6 (G : JG) (c1 : Int32) (c2 : Int32) (c3 : Int32) (c4 : Int32) : ∀ (n : Nat) (v1 : Int32) (v2 : Int32) (M1 : PM), T_x_doesBy G  M1 6 [some (.ref 20), some (.int c1), some (.int c2), some (.int c3), some (.int c4), some (.int v1), some (.int v2)] [] (x_doesBy_L6 c1 c2 c3 c4 n v1 v2 M1) := by
  intro n
  induction n with
  | zero =>
    intro v1 v2 M1
    exact J_none
  | succ n ih =>
    intro v1 v2 M1
    rw [x_doesBy_L6]
    refine J_iload (pc := 6) dX1_doesBy_6 rfl ?_
    refine J_aload_n (pc := 8) dX1_doesBy_8 rfl ?_
    refine J_get (pc := 9) (c := 0) (.int (M1.i 20 13)) rfl in_X1 13 (by decide) q190 rfl (fun h => sh_k1 h 0 rfl) (fun _ _ => rfl) dX1_doesBy_9 ?_
    refine J_icmp_ge (pc := 12) 81 dX1_doesBy_12 rfl (fun h => if_pos h) (fun h => if_neg h) (fun _ => ?_) (fun _ => ?_)
    · refine J_iload (pc := 81) dX1_doesBy_81 rfl ?_
      exact J_iret (pc := 83) dX1_doesBy_83
    · refine J_iload (pc := 15) dX1_doesBy_15 rfl ?_
      refine J_aload_n (pc := 17) dX1_doesBy_17 rfl ?_
      refine J_get (pc := 18) (c := 0) (.ref 35) rfl in_X1 6 (by decide) q183 rfl (fun h => sh_k1 h 0 rfl) (fun h _ => fv_ref (Or.inr ⟨_, rfl⟩) (sh_r h 14 rfl)) dX1_doesBy_18 ?_
      refine J_iload (pc := 21) dX1_doesBy_21 rfl ?_
      refine J_ck (fun h1 => ?_)
      refine J_iald (pc := 23) (a := 35) (fun h => sh_a h 15 rfl h1) dX1_doesBy_23 ?_
      refine J_iload_n (pc := 24) dX1_doesBy_24 rfl ?_
      refine J_jn (P := fun J => ∀ (v3 : Int32) (M2 : PM), T_x_doesBy G  M2 72 [some (.ref 20), some (.int c1), some (.int c2), some (.int c3), some (.int c4), none, some (.int v2)] [.int v3, .int v1] (J v3 M2)) (fun v3 M2 => ?_) (fun j1 hj1 => ?_)
      · refine J_ior (pc := 72) dX1_doesBy_72 ?_
        refine J_lt (β := Int32) (v := (v1 ||| v3)) (L := fun _ => _) (S := fun v4 => [.int v4]) (fun v4 => ?_)
        refine J_istore (pc := 73) dX1_doesBy_73 (by decide) ?_
        refine J_iincL (pc := 75) (n := 1) (by decide) dX1_doesBy_75 rfl (by decide) (fun v5 => ?_)
        refine J_goto (pc := 78) 6 dX1_doesBy_78 rfl ?_
        exact J_sub (A := [some (.ref 20), some (.int c1), some (.int c2), some (.int c3), some (.int c4), some (.int v4), some (.int v5)]) ⟨rfl, ⟨rfl, ⟨rfl, ⟨rfl, ⟨rfl, ⟨rfl, ⟨rfl, trivial⟩⟩⟩⟩⟩⟩⟩ (ih v4 v5 M2)
      refine J_icmp_ne (pc := 25) 71 dX1_doesBy_25 rfl (fun h => if_neg h) (fun h => if_pos h) (fun _ => ?_) (fun _ => ?_)
      · refine J_iconst (pc := 71) 0 dX1_doesBy_71 (by decide) ?_
        exact J_sub (A := [some (.ref 20), some (.int c1), some (.int c2), some (.int c3), some (.int c4), none, some (.int v2)]) ⟨rfl, ⟨rfl, ⟨rfl, ⟨rfl, ⟨rfl, ⟨rfl, trivial⟩⟩⟩⟩⟩⟩ (hj1 0 M1)
      · refine J_aload_n (pc := 28) dX1_doesBy_28 rfl ?_
        refine J_get (pc := 29) (c := 0) (.ref 37) rfl in_X1 8 (by decide) q185 rfl (fun h => sh_k1 h 0 rfl) (fun h _ => fv_ref (Or.inr ⟨_, rfl⟩) (sh_r h 16 rfl)) dX1_doesBy_29 ?_
        refine J_iload (pc := 32) dX1_doesBy_32 rfl ?_
        refine J_ck (fun h2 => ?_)
        refine J_iald (pc := 34) (a := 37) (fun h => sh_a h 17 rfl h2) dX1_doesBy_34 ?_
        refine J_iload_n (pc := 35) dX1_doesBy_35 rfl ?_
        refine J_icmp_ne (pc := 36) 71 dX1_doesBy_36 rfl (fun h => if_neg h) (fun h => if_pos h) (fun _ => ?_) (fun _ => ?_)
        · refine J_iconst (pc := 71) 0 dX1_doesBy_71 (by decide) ?_
          exact J_sub (A := [some (.ref 20), some (.int c1), some (.int c2), some (.int c3), some (.int c4), none, some (.int v2)]) ⟨rfl, ⟨rfl, ⟨rfl, ⟨rfl, ⟨rfl, ⟨rfl, trivial⟩⟩⟩⟩⟩⟩ (hj1 0 M1)
        · refine J_iload_n (pc := 39) dX1_doesBy_39 rfl ?_
          refine J_iload (pc := 40) dX1_doesBy_40 rfl ?_
          refine J_callS (pc := 42) (n := 2) (vs := [.int c1, .int v2]) (fun l => C_x_has l c1 v2 M1) (lw_S q757 q758 q116 q759) nmh_X1_has rfl (by omega) (by decide) rfl (Nat.le_of_ble_eq_true rfl) dX1_doesBy_42 (fun v6 M3 => ?_)
          refine J_if_ne (pc := 45) 71 dX1_doesBy_45 rfl (fun h => if_neg h) (fun h => if_pos h) (fun _ => ?_) (fun _ => ?_)
          · refine J_iconst (pc := 71) 0 dX1_doesBy_71 (by decide) ?_
            exact J_sub (A := [some (.ref 20), some (.int c1), some (.int c2), some (.int c3), some (.int c4), none, some (.int v2)]) ⟨rfl, ⟨rfl, ⟨rfl, ⟨rfl, ⟨rfl, ⟨rfl, trivial⟩⟩⟩⟩⟩⟩ (hj1 0 M3)
          · refine J_aload_n (pc := 48) dX1_doesBy_48 rfl ?_
            refine J_iload (pc := 49) dX1_doesBy_49 rfl ?_
            refine J_aload_n (pc := 51) dX1_doesBy_51 rfl ?_
            refine J_get (pc := 52) (c := 0) (.ref 36) rfl in_X1 7 (by decide) q184 rfl (fun h => sh_k1 h 0 rfl) (fun h _ => fv_ref (Or.inr ⟨_, rfl⟩) (sh_r h 15 rfl)) dX1_doesBy_52 ?_
            refine J_iload (pc := 55) dX1_doesBy_55 rfl ?_
            refine J_ck (fun h3 => ?_)
            refine J_iald (pc := 57) (a := 36) (fun h => sh_a h 16 rfl h3) dX1_doesBy_57 ?_
            refine J_callV (pc := 58) (n := 2) (b := 20) (vs := [.int c4, .int (M3.i 36 (ix v2))]) (ci := 0) (fun l => C_x_means l c4 (M3.i 36 (ix v2)) M3) (lw_V q760 q762 qs27 q116 q763) nmv_X1_means rfl (by omega) (by decide) rfl (fun h => sh_k1 h 0 rfl) rfl (Nat.le_of_ble_eq_true rfl) dX1_doesBy_58 (fun v7 M4 => ?_)
            refine J_if_eq (pc := 61) 71 dX1_doesBy_61 rfl (fun h => if_pos h) (fun h => if_neg h) (fun _ => ?_) (fun _ => ?_)
            · refine J_iconst (pc := 71) 0 dX1_doesBy_71 (by decide) ?_
              exact J_sub (A := [some (.ref 20), some (.int c1), some (.int c2), some (.int c3), some (.int c4), none, some (.int v2)]) ⟨rfl, ⟨rfl, ⟨rfl, ⟨rfl, ⟨rfl, ⟨rfl, trivial⟩⟩⟩⟩⟩⟩ (hj1 0 M4)
            · refine J_iconst (pc := 64) 1 dX1_doesBy_64 (by decide) ?_
              refine J_iload (pc := 65) dX1_doesBy_65 rfl ?_
              refine J_ishl (pc := 67) dX1_doesBy_67 ?_
              refine J_goto (pc := 68) 72 dX1_doesBy_68 rfl ?_
              exact J_sub (A := [some (.ref 20), some (.int c1), some (.int c2), some (.int c3), some (.int c4), none, some (.int v2)]) ⟨rfl, ⟨rfl, ⟨rfl, ⟨rfl, ⟨rfl, ⟨rfl, trivial⟩⟩⟩⟩⟩⟩ (hj1 (1 <<< (v2 &&& 31)) M4)

def x_doesBy (p1 : Int32) (p2 : Int32) (p3 : Int32) (p4 : Int32) (M : PM) : Option (Int32 × PM) :=
    x_doesBy_L6 p1 p2 p3 p4 FU 0 0 M

set_option maxHeartbeats 4000000 in
theorem t_x_doesBy (G : JG) (p1 : Int32) (p2 : Int32) (p3 : Int32) (p4 : Int32) (M : PM) : T_x_doesBy G  M 0 (ent [.ref 20, .int p1, .int p2, .int p3, .int p4] 7) [] (x_doesBy p1 p2 p3 p4 M) := by
  unfold x_doesBy
  refine J_iconst (pc := 0) 0 dX1_doesBy_0 (by decide) ?_
  refine J_istore (pc := 1) dX1_doesBy_1 (by decide) ?_
  refine J_iconst (pc := 3) 0 dX1_doesBy_3 (by decide) ?_
  refine J_istore (pc := 4) dX1_doesBy_4 (by decide) ?_
  refine J_sub (A := [some (.ref 20), some (.int p1), some (.int p2), some (.int p3), some (.int p4), some (.int 0), some (.int 0)]) ⟨rfl, ⟨rfl, ⟨rfl, ⟨rfl, ⟨rfl, ⟨rfl, ⟨rfl, trivial⟩⟩⟩⟩⟩⟩⟩ (t_x_doesBy_L6 G p1 p2 p3 p4  FU 0 0 M)

theorem C_x_doesBy (l : Launch) (p1 : Int32) (p2 : Int32) (p3 : Int32) (p4 : Int32) (M : PM) : Ctr l Sh yX1_doesBy cX1_doesBy 7 (some .int) 2 rvI [.ref 20, .int p1, .int p2, .int p3, .int p4] M (x_doesBy p1 p2 p3 p4 M) := Ctr.of (by decide +kernel) (Nat.le_of_ble_eq_true rfl) (fun G => t_x_doesBy G p1 p2 p3 p4 M)

abbrev T_rd_hears (G : JG) (M : PM) (pc : Nat) (L : List (Option Value)) (S : List Value) (o : Option (Unit × PM)) : Prop := JJ G cX2_hears yX2_hears 3 1 none Sh (finR G Sh rvU) M pc L S o
def rd_hears (p0 : Nat) (p1 : Int32) (p2 : Int32) (M : PM) : Option (Unit × PM) :=
    ckk M p0 1 <|
    lt (M.r p0 3) fun r1 =>
    rf r1 fun a1 =>
    cka M a1 20 ((5 * p1) + p2) <|
    cka M a1 20 ((5 * p1) + p2) <|
    lt (M.si a1 (ix ((5 * p1) + p2)) ((M.i a1 (ix ((5 * p1) + p2))) + 1)) fun M1 =>
    some ((), M1)

set_option maxHeartbeats 4000000 in
theorem t_rd_hears (G : JG) (p0 : Nat) (p1 : Int32) (p2 : Int32) (M : PM) : T_rd_hears G  M 0 (ent [.ref p0, .int p1, .int p2] 3) [] (rd_hears p0 p1 p2 M) := by
  unfold rd_hears
  refine J_aload_n (pc := 0) dX2_hears_0 rfl ?_
  refine J_ckk (fun h1 => ?_)
  refine J_getO (pc := 1) (c := 1) rfl in_X2 3 (by decide) q156 rfl (fun _ => h1) (fun _ _ => fv_rf (Or.inr ⟨_, rfl⟩)) dX2_hears_1 (fun r1 => ?_)
  refine J_iconst (pc := 4) 5 dX2_hears_4 (by decide) ?_
  refine J_iload_n (pc := 5) dX2_hears_5 rfl ?_
  refine J_imul (pc := 6) dX2_hears_6 ?_
  refine J_iload_n (pc := 7) dX2_hears_7 rfl ?_
  refine J_iadd (pc := 8) dX2_hears_8 ?_
  refine J_dup2 (pc := 9) dX2_hears_9 rfl (rf_cat _) ?_
  refine J_rfe (fun a1 ea1 => ?_)
  subst ea1
  refine J_cka (fun h2 h22 => ?_)
  refine J_iald (pc := 10) (a := a1) (fun _ => ⟨h2, h22⟩) dX2_hears_10 ?_
  refine J_iconst (pc := 11) 1 dX2_hears_11 (by decide) ?_
  refine J_iadd (pc := 12) dX2_hears_12 ?_
  refine J_cka (fun h3 h32 => ?_)
  refine J_iast (pc := 13) (a := a1) (fun _ => ⟨h3, h32⟩) (fun h => Sh_si h) dX2_hears_13 ?_
  refine J_ltM (fun M1 => ?_)
  exact J_ret (pc := 14) dX2_hears_14

theorem C_rd_hears (l : Launch) (p0 : Nat) (p1 : Int32) (p2 : Int32) (M : PM) : Ctr l Sh yX2_hears cX2_hears 3 none 1 rvU [.ref p0, .int p1, .int p2] M (rd_hears p0 p1 p2 M) := Ctr.of (by decide +kernel) (Nat.le_of_ble_eq_true rfl) (fun G => t_rd_hears G p0 p1 p2 M)

abbrev T_rd_pays (G : JG) (M : PM) (pc : Nat) (L : List (Option Value)) (S : List Value) (o : Option (Unit × PM)) : Prop := JJ G cX2_pays yX2_pays 3 1 none Sh (finR G Sh rvU) M pc L S o
def rd_pays (p0 : Nat) (p1 : Int32) (p2 : Int32) (M : PM) : Option (Unit × PM) :=
    ckk M p0 1 <|
    lt (M.r p0 1) fun r1 =>
    rf r1 fun a1 =>
    cka M a1 20 p1 <|
    cka M a1 20 p1 <|
    lt (M.si a1 (ix p1) ((M.i a1 (ix p1)) - p2)) fun M1 =>
    ckk M1 p0 1 <|
    lt (M1.r p0 2) fun r2 =>
    rf r2 fun a2 =>
    cka M1 a2 20 p1 <|
    cka M1 a2 20 p1 <|
    lt (M1.si a2 (ix p1) ((M1.i a2 (ix p1)) + p2)) fun M2 =>
    some ((), M2)

set_option maxHeartbeats 4000000 in
theorem t_rd_pays (G : JG) (p0 : Nat) (p1 : Int32) (p2 : Int32) (M : PM) : T_rd_pays G  M 0 (ent [.ref p0, .int p1, .int p2] 3) [] (rd_pays p0 p1 p2 M) := by
  unfold rd_pays
  refine J_aload_n (pc := 0) dX2_pays_0 rfl ?_
  refine J_ckk (fun h1 => ?_)
  refine J_getO (pc := 1) (c := 1) rfl in_X2 1 (by decide) q152 rfl (fun _ => h1) (fun _ _ => fv_rf (Or.inr ⟨_, rfl⟩)) dX2_pays_1 (fun r1 => ?_)
  refine J_iload_n (pc := 4) dX2_pays_4 rfl ?_
  refine J_dup2 (pc := 5) dX2_pays_5 rfl (rf_cat _) ?_
  refine J_rfe (fun a1 ea1 => ?_)
  subst ea1
  refine J_cka (fun h2 h22 => ?_)
  refine J_iald (pc := 6) (a := a1) (fun _ => ⟨h2, h22⟩) dX2_pays_6 ?_
  refine J_iload_n (pc := 7) dX2_pays_7 rfl ?_
  refine J_isub (pc := 8) dX2_pays_8 ?_
  refine J_cka (fun h3 h32 => ?_)
  refine J_iast (pc := 9) (a := a1) (fun _ => ⟨h3, h32⟩) (fun h => Sh_si h) dX2_pays_9 ?_
  refine J_ltM (fun M1 => ?_)
  refine J_aload_n (pc := 10) dX2_pays_10 rfl ?_
  refine J_ckk (fun h4 => ?_)
  refine J_getO (pc := 11) (c := 1) rfl in_X2 2 (by decide) q154 rfl (fun _ => h4) (fun _ _ => fv_rf (Or.inr ⟨_, rfl⟩)) dX2_pays_11 (fun r2 => ?_)
  refine J_iload_n (pc := 14) dX2_pays_14 rfl ?_
  refine J_dup2 (pc := 15) dX2_pays_15 rfl (rf_cat _) ?_
  refine J_rfe (fun a2 ea2 => ?_)
  subst ea2
  refine J_cka (fun h5 h52 => ?_)
  refine J_iald (pc := 16) (a := a2) (fun _ => ⟨h5, h52⟩) dX2_pays_16 ?_
  refine J_iload_n (pc := 17) dX2_pays_17 rfl ?_
  refine J_iadd (pc := 18) dX2_pays_18 ?_
  refine J_cka (fun h6 h62 => ?_)
  refine J_iast (pc := 19) (a := a2) (fun _ => ⟨h6, h62⟩) (fun h => Sh_si h) dX2_pays_19 ?_
  refine J_ltM (fun M2 => ?_)
  exact J_ret (pc := 20) dX2_pays_20

theorem C_rd_pays (l : Launch) (p0 : Nat) (p1 : Int32) (p2 : Int32) (M : PM) : Ctr l Sh yX2_pays cX2_pays 3 none 1 rvU [.ref p0, .int p1, .int p2] M (rd_pays p0 p1 p2 M) := Ctr.of (by decide +kernel) (Nat.le_of_ble_eq_true rfl) (fun G => t_rd_pays G p0 p1 p2 M)

abbrev T_x_says (G : JG) (M : PM) (pc : Nat) (L : List (Option Value)) (S : List Value) (o : Option (Int32 × PM)) : Prop := JJ G cX1_says yX1_says 6 142 (some .int) Sh (finR G Sh rvI) M pc L S o
def x_says_L59 (c1 : Nat) (c2 : Int32) (c3 : Int32) (c4 : Int32) (k103 : PM → Option (Int32 × PM)) : Nat → Int32 → PM → Option (Int32 × PM)
  | 0, _, _ => none
  | n + 1, v4, M5 =>
    ck c3 10 <|
    if (M5.i 32 (ix c3)) ≤ v4 then (k103 M5)
    else (bd (x_vowelAt c3 v4 M5) fun v5 M6 =>
    jn (fun (M7 : PM) =>
    lt (v4 + 1) fun v6 =>
    x_says_L59 c1 c2 c3 c4 k103 n v6 M7) fun j1 =>
    if v5 < 0 then (j1 M6)
    else (ckk M6 c1 1 <|
    lt (M6.r c1 0) fun r3 =>
    rf r3 fun a3 =>
    cka M6 a3 20 c2 <|
    bd (x_vowelAt c3 v4 M6) fun v7 M8 =>
    ckk M8 c1 1 <|
    bd (rd_hears c1 (M6.i a3 (ix c2)) v7 M8) fun _ M9 =>
    j1 M9))

set_option maxHeartbeats 4000000 in
theorem t_x_says_L59 (G : JG) (c1 : Nat) (c2 : Int32) (c3 : Int32) (c4 : Int32) (k103 : PM → Option (Int32 × PM)) (hk103 : ∀ Me, T_x_says G  Me 103 [some (.ref 20), some (.ref c1), some (.int c2), some (.int c3), some (.int c4), none] [] (k103 Me)) : ∀ (n : Nat) (v4 : Int32) (M5 : PM), T_x_says G  M5 59 [some (.ref 20), some (.ref c1), some (.int c2), some (.int c3), some (.int c4), some (.int v4)] [] (x_says_L59 c1 c2 c3 c4 k103 n v4 M5) := by
  intro n
  induction n with
  | zero =>
    intro v4 M5
    exact J_none
  | succ n ih =>
    intro v4 M5
    rw [x_says_L59]
    refine J_iload (pc := 59) dX1_says_59 rfl ?_
    refine J_aload_n (pc := 61) dX1_says_61 rfl ?_
    refine J_get (pc := 62) (c := 0) (.ref 32) rfl in_X1 3 (by decide) q180 rfl (fun h => sh_k1 h 0 rfl) (fun h _ => fv_ref (Or.inr ⟨_, rfl⟩) (sh_r h 11 rfl)) dX1_says_62 ?_
    refine J_iload_n (pc := 65) dX1_says_65 rfl ?_
    refine J_ck (fun h7 => ?_)
    refine J_iald (pc := 66) (a := 32) (fun h => sh_a h 12 rfl h7) dX1_says_66 ?_
    refine J_icmp_ge (pc := 67) 103 dX1_says_67 rfl (fun h => if_pos h) (fun h => if_neg h) (fun _ => ?_) (fun _ => ?_)
    · exact J_sub (A := [some (.ref 20), some (.ref c1), some (.int c2), some (.int c3), some (.int c4), none]) ⟨rfl, ⟨rfl, ⟨rfl, ⟨rfl, ⟨rfl, trivial⟩⟩⟩⟩⟩ (hk103 M5)
    · refine J_aload_n (pc := 70) dX1_says_70 rfl ?_
      refine J_iload_n (pc := 71) dX1_says_71 rfl ?_
      refine J_iload (pc := 72) dX1_says_72 rfl ?_
      refine J_callV (pc := 74) (n := 2) (b := 20) (vs := [.int c3, .int v4]) (ci := 0) (fun l => C_x_vowelAt l c3 v4 M5) (lw_V q686 q688 qs19 q116 q689) nmv_X1_vowelAt rfl (by omega) (by decide) rfl (fun h => sh_k1 h 0 rfl) rfl (Nat.le_of_ble_eq_true rfl) dX1_says_74 (fun v5 M6 => ?_)
      refine J_jn (P := fun J => ∀ (M7 : PM), T_x_says G  M7 97 [some (.ref 20), some (.ref c1), some (.int c2), some (.int c3), some (.int c4), some (.int v4)] [] (J M7)) (fun M7 => ?_) (fun j1 hj1 => ?_)
      · refine J_iincL (pc := 97) (n := 1) (by decide) dX1_says_97 rfl (by decide) (fun v6 => ?_)
        refine J_goto (pc := 100) 59 dX1_says_100 rfl ?_
        exact J_sub (A := [some (.ref 20), some (.ref c1), some (.int c2), some (.int c3), some (.int c4), some (.int v6)]) ⟨rfl, ⟨rfl, ⟨rfl, ⟨rfl, ⟨rfl, ⟨rfl, trivial⟩⟩⟩⟩⟩⟩ (ih v6 M7)
      refine J_if_lt (pc := 77) 97 dX1_says_77 rfl (fun h => if_pos h) (fun h => if_neg h) (fun _ => ?_) (fun _ => ?_)
      · exact J_sub (A := [some (.ref 20), some (.ref c1), some (.int c2), some (.int c3), some (.int c4), some (.int v4)]) ⟨rfl, ⟨rfl, ⟨rfl, ⟨rfl, ⟨rfl, ⟨rfl, trivial⟩⟩⟩⟩⟩⟩ (hj1 M6)
      · refine J_aload_n (pc := 80) dX1_says_80 rfl ?_
        refine J_aload_n (pc := 81) dX1_says_81 rfl ?_
        refine J_ckk (fun h8 => ?_)
        refine J_getNO (host := "TollOnVowels") (pc := 82) (c := 1) rfl in_X2 0 (by decide) (by decide +kernel) rfl (fun _ => h8) (fun _ _ => fv_rf (Or.inr ⟨_, rfl⟩)) dX1_says_82 (fun r3 => ?_)
        refine J_iload_n (pc := 85) dX1_says_85 rfl ?_
        refine J_rfe (fun a3 ea3 => ?_)
        subst ea3
        refine J_cka (fun h9 h92 => ?_)
        refine J_iald (pc := 86) (a := a3) (fun _ => ⟨h9, h92⟩) dX1_says_86 ?_
        refine J_aload_n (pc := 87) dX1_says_87 rfl ?_
        refine J_iload_n (pc := 88) dX1_says_88 rfl ?_
        refine J_iload (pc := 89) dX1_says_89 rfl ?_
        refine J_callV (pc := 91) (n := 2) (b := 20) (vs := [.int c3, .int v4]) (ci := 0) (fun l => C_x_vowelAt l c3 v4 M6) (lw_V q686 q688 qs19 q116 q689) nmv_X1_vowelAt rfl (by omega) (by decide) rfl (fun h => sh_k1 h 0 rfl) rfl (Nat.le_of_ble_eq_true rfl) dX1_says_91 (fun v7 M8 => ?_)
        refine J_ckk (fun h10 => ?_)
        refine J_callV (pc := 94) (n := 2) (b := c1) (vs := [.int (M6.i a3 (ix c2)), .int v7]) (ci := 1) (fun l => C_rd_hears l c1 (M6.i a3 (ix c2)) v7 M8) (lw_V q749 q750 q751 q117 q752) nmv_X2_hears rfl (by omega) (by decide) rfl (fun _ => h10) rfl (Nat.le_of_ble_eq_true rfl) dX1_says_94 (fun _ M9 => ?_)
        exact J_sub (A := [some (.ref 20), some (.ref c1), some (.int c2), some (.int c3), some (.int c4), some (.int v4)]) ⟨rfl, ⟨rfl, ⟨rfl, ⟨rfl, ⟨rfl, ⟨rfl, trivial⟩⟩⟩⟩⟩⟩ (hj1 M9)

def x_says (p1 : Nat) (p2 : Int32) (p3 : Int32) (M : PM) : Option (Int32 × PM) :=
    bd (x_isTraveller p2 M) fun v1 M1 =>
    if v1 = 0 then (some ((-1), M1))
    else (bd (x_isWord p3 M1) fun v2 M2 =>
    if v2 = 0 then (some ((-1), M2))
    else (ckk M2 p1 1 <|
    lt (M2.r p1 0) fun r1 =>
    rf r1 fun a1 =>
    cka M2 a1 20 p2 <|
    ckk M2 p1 1 <|
    bd (x_tollOf p3 (M2.i a1 (ix p2)) (M2.i p1 4) M2) fun v3 M3 =>
    ckk M3 p1 1 <|
    lt (M3.r p1 1) fun r2 =>
    rf r2 fun a2 =>
    cka M3 a2 20 p2 <|
    if v3 ≤ (M3.i a2 (ix p2)) then (ckk M3 p1 1 <|
    bd (rd_pays p1 p2 v3 M3) fun _ M4 =>
    x_says_L59 p1 p2 p3 v3 (fun (M10 : PM) =>
    ckk M10 p1 1 <|
    ckk M10 p1 1 <|
    lt (M10.r p1 0) fun r4 =>
    rf r4 fun a4 =>
    cka M10 a4 20 p2 <|
    bd (x_doesBy (M10.i p1 5) p2 (M10.i a4 (ix p2)) p3 M10) fun v8 M11 =>
    lt (M11.si 20 44 v8) fun M12 =>
    ckk M12 p1 1 <|
    ckk M12 p1 1 <|
    lt (M12.si p1 5 ((M12.i p1 5) ||| (M12.i 20 44))) fun M13 =>
    some (v3, M13)) FU 0 M4)
    else (some ((-2), M3))))

set_option maxHeartbeats 4000000 in
theorem t_x_says (G : JG) (p1 : Nat) (p2 : Int32) (p3 : Int32) (M : PM) : T_x_says G  M 0 (ent [.ref 20, .ref p1, .int p2, .int p3] 6) [] (x_says p1 p2 p3 M) := by
  unfold x_says
  refine J_aload_n (pc := 0) dX1_says_0 rfl ?_
  refine J_iload_n (pc := 1) dX1_says_1 rfl ?_
  refine J_callV (pc := 2) (n := 1) (b := 20) (vs := [.int p2]) (ci := 0) (fun l => C_x_isTraveller l p2 M) (lw_V q720 q722 qs22 q116 q723) nmv_X1_isTraveller rfl (by omega) (by decide) rfl (fun h => sh_k1 h 0 rfl) rfl (Nat.le_of_ble_eq_true rfl) dX1_says_2 (fun v1 M1 => ?_)
  refine J_if_eq (pc := 5) 16 dX1_says_5 rfl (fun h => if_pos h) (fun h => if_neg h) (fun _ => ?_) (fun _ => ?_)
  · refine J_iconst (pc := 16) (-1) dX1_says_16 (by decide) ?_
    exact J_iret (pc := 17) dX1_says_17
  · refine J_aload_n (pc := 8) dX1_says_8 rfl ?_
    refine J_iload_n (pc := 9) dX1_says_9 rfl ?_
    refine J_callV (pc := 10) (n := 1) (b := 20) (vs := [.int p3]) (ci := 0) (fun l => C_x_isWord l p3 M1) (lw_V q674 q676 qs16 q116 q677) nmv_X1_isWord rfl (by omega) (by decide) rfl (fun h => sh_k1 h 0 rfl) rfl (Nat.le_of_ble_eq_true rfl) dX1_says_10 (fun v2 M2 => ?_)
    refine J_if_ne (pc := 13) 18 dX1_says_13 rfl (fun h => if_neg h) (fun h => if_pos h) (fun _ => ?_) (fun _ => ?_)
    · refine J_aload_n (pc := 18) dX1_says_18 rfl ?_
      refine J_iload_n (pc := 19) dX1_says_19 rfl ?_
      refine J_aload_n (pc := 20) dX1_says_20 rfl ?_
      refine J_ckk (fun h1 => ?_)
      refine J_getNO (host := "TollOnVowels") (pc := 21) (c := 1) rfl in_X2 0 (by decide) (by decide +kernel) rfl (fun _ => h1) (fun _ _ => fv_rf (Or.inr ⟨_, rfl⟩)) dX1_says_21 (fun r1 => ?_)
      refine J_iload_n (pc := 24) dX1_says_24 rfl ?_
      refine J_rfe (fun a1 ea1 => ?_)
      subst ea1
      refine J_cka (fun h2 h22 => ?_)
      refine J_iald (pc := 25) (a := a1) (fun _ => ⟨h2, h22⟩) dX1_says_25 ?_
      refine J_aload_n (pc := 26) dX1_says_26 rfl ?_
      refine J_ckk (fun h3 => ?_)
      refine J_getN (host := "TollOnVowels") (pc := 27) (c := 1) (.int (M2.i p1 4)) rfl in_X2 4 (by decide) (by decide +kernel) rfl (fun _ => h3) (fun _ _ => rfl) dX1_says_27 ?_
      refine J_callV (pc := 30) (n := 3) (b := 20) (vs := [.int p3, .int (M2.i a1 (ix p2)), .int (M2.i p1 4)]) (ci := 0) (fun l => C_x_tollOf l p3 (M2.i a1 (ix p2)) (M2.i p1 4) M2) (lw_V q682 q684 qs18 q116 q685) nmv_X1_tollOf rfl (by omega) (by decide) rfl (fun h => sh_k1 h 0 rfl) rfl (Nat.le_of_ble_eq_true rfl) dX1_says_30 (fun v3 M3 => ?_)
      refine J_istore (pc := 33) dX1_says_33 (by decide) ?_
      refine J_iload (pc := 35) dX1_says_35 rfl ?_
      refine J_aload_n (pc := 37) dX1_says_37 rfl ?_
      refine J_ckk (fun h4 => ?_)
      refine J_getNO (host := "TollOnVowels") (pc := 38) (c := 1) rfl in_X2 1 (by decide) (by decide +kernel) rfl (fun _ => h4) (fun _ _ => fv_rf (Or.inr ⟨_, rfl⟩)) dX1_says_38 (fun r2 => ?_)
      refine J_iload_n (pc := 41) dX1_says_41 rfl ?_
      refine J_rfe (fun a2 ea2 => ?_)
      subst ea2
      refine J_cka (fun h5 h52 => ?_)
      refine J_iald (pc := 42) (a := a2) (fun _ => ⟨h5, h52⟩) dX1_says_42 ?_
      refine J_icmp_le (pc := 43) 49 dX1_says_43 rfl (fun h => if_pos h) (fun h => if_neg h) (fun _ => ?_) (fun _ => ?_)
      · refine J_aload_n (pc := 49) dX1_says_49 rfl ?_
        refine J_iload_n (pc := 50) dX1_says_50 rfl ?_
        refine J_iload (pc := 51) dX1_says_51 rfl ?_
        refine J_ckk (fun h6 => ?_)
        refine J_callV (pc := 53) (n := 2) (b := p1) (vs := [.int p2, .int v3]) (ci := 1) (fun l => C_rd_pays l p1 p2 v3 M3) (lw_V q745 q746 q747 q117 q748) nmv_X2_pays rfl (by omega) (by decide) rfl (fun _ => h6) rfl (Nat.le_of_ble_eq_true rfl) dX1_says_53 (fun _ M4 => ?_)
        refine J_iconst (pc := 56) 0 dX1_says_56 (by decide) ?_
        refine J_istore (pc := 57) dX1_says_57 (by decide) ?_
        refine J_sub (A := [some (.ref 20), some (.ref p1), some (.int p2), some (.int p3), some (.int v3), some (.int 0)]) ⟨rfl, ⟨rfl, ⟨rfl, ⟨rfl, ⟨rfl, ⟨rfl, trivial⟩⟩⟩⟩⟩⟩ (t_x_says_L59 G p1 p2 p3 v3 _ ?_ FU 0 M4)
        · intro M10
          refine J_aload_n (pc := 103) dX1_says_103 rfl ?_
          refine J_aload_n (pc := 104) dX1_says_104 rfl ?_
          refine J_aload_n (pc := 105) dX1_says_105 rfl ?_
          refine J_ckk (fun h11 => ?_)
          refine J_getN (host := "TollOnVowels") (pc := 106) (c := 1) (.int (M10.i p1 5)) rfl in_X2 5 (by decide) (by decide +kernel) rfl (fun _ => h11) (fun _ _ => rfl) dX1_says_106 ?_
          refine J_iload_n (pc := 109) dX1_says_109 rfl ?_
          refine J_aload_n (pc := 110) dX1_says_110 rfl ?_
          refine J_ckk (fun h12 => ?_)
          refine J_getNO (host := "TollOnVowels") (pc := 111) (c := 1) rfl in_X2 0 (by decide) (by decide +kernel) rfl (fun _ => h12) (fun _ _ => fv_rf (Or.inr ⟨_, rfl⟩)) dX1_says_111 (fun r4 => ?_)
          refine J_iload_n (pc := 114) dX1_says_114 rfl ?_
          refine J_rfe (fun a4 ea4 => ?_)
          subst ea4
          refine J_cka (fun h13 h132 => ?_)
          refine J_iald (pc := 115) (a := a4) (fun _ => ⟨h13, h132⟩) dX1_says_115 ?_
          refine J_iload_n (pc := 116) dX1_says_116 rfl ?_
          refine J_callV (pc := 117) (n := 4) (b := 20) (vs := [.int (M10.i p1 5), .int p2, .int (M10.i a4 (ix p2)), .int p3]) (ci := 0) (fun l => C_x_doesBy l (M10.i p1 5) p2 (M10.i a4 (ix p2)) p3 M10) (lw_V q753 q755 qs26 q116 q756) nmv_X1_doesBy rfl (by omega) (by decide) rfl (fun h => sh_k1 h 0 rfl) rfl (Nat.le_of_ble_eq_true rfl) dX1_says_117 (fun v8 M11 => ?_)
          refine J_put (pc := 120) (a := 20) (v := .int v8) (M' := M11.si 20 44 v8) (c := 0) rfl in_X1 tyX1_ok fnX1 44 (by decide) q228 rfl (Or.inl rfl) (fun h => sh_k1 h 0 rfl) (fun _ => rfl) (fun _ => rfl) ⟨⟨rfl, rfl⟩, rfl⟩ (fun _ hb => up2_same hb) (fun _ _ => rfl) (fun _ _ => rfl) (put_i (fun _ _ _ => rfl)) (fun h => Sh_si h) dX1_says_120 ?_
          refine J_ltM (fun M12 => ?_)
          refine J_aload_n (pc := 123) dX1_says_123 rfl ?_
          refine J_dup (pc := 124) dX1_says_124 rfl ?_
          refine J_ckk (fun h14 => ?_)
          refine J_getN (host := "TollOnVowels") (pc := 125) (c := 1) (.int (M12.i p1 5)) rfl in_X2 5 (by decide) (by decide +kernel) rfl (fun _ => h14) (fun _ _ => rfl) dX1_says_125 ?_
          refine J_aload_n (pc := 128) dX1_says_128 rfl ?_
          refine J_get (pc := 129) (c := 0) (.int (M12.i 20 44)) rfl in_X1 44 (by decide) q228 rfl (fun h => sh_k1 h 0 rfl) (fun _ _ => rfl) dX1_says_129 ?_
          refine J_ior (pc := 132) dX1_says_132 ?_
          refine J_ckk (fun h15 => ?_)
          refine J_putN (host := "TollOnVowels") (pc := 133) (a := p1) (v := .int ((M12.i p1 5) ||| (M12.i 20 44))) (M' := M12.si p1 5 ((M12.i p1 5) ||| (M12.i 20 44))) (c := 1) rfl in_X2 tyX2_ok fnX2 5 (by decide) (by decide +kernel) rfl rfl (fun _ => h15) (fun _ => rfl) (fun _ => rfl) ⟨⟨rfl, rfl⟩, rfl⟩ (fun _ hb => up2_same hb) (fun _ _ => rfl) (fun _ _ => rfl) (put_i (fun _ _ _ => rfl)) (fun h => Sh_si h) dX1_says_133 ?_
          refine J_ltM (fun M13 => ?_)
          refine J_iload (pc := 136) dX1_says_136 rfl ?_
          exact J_iret (pc := 138) dX1_says_138
      · refine J_bipush (pc := 46) (-2) dX1_says_46 (by decide) ?_
        exact J_iret (pc := 48) dX1_says_48
    · refine J_iconst (pc := 16) (-1) dX1_says_16 (by decide) ?_
      exact J_iret (pc := 17) dX1_says_17

theorem C_x_says (l : Launch) (p1 : Nat) (p2 : Int32) (p3 : Int32) (M : PM) : Ctr l Sh yX1_says cX1_says 6 (some .int) 142 rvI [.ref 20, .ref p1, .int p2, .int p3] M (x_says p1 p2 p3 M) := Ctr.of (by decide +kernel) (Nat.le_of_ble_eq_true rfl) (fun G => t_x_says G p1 p2 p3 M)

abbrev T_x_say (G : JG) (M : PM) (pc : Nat) (L : List (Option Value)) (S : List Value) (o : Option (Int32 × PM)) : Prop := JJ G cX1_say yX1_say 4 143 (some .int) Sh (finR G Sh rvI) M pc L S o
def x_say (p1 : Int32) (p2 : Int32) (M : PM) : Option (Int32 × PM) :=
    bd (rd_becomes 52 21 M) fun _ M1 =>
    bd (x_says 21 p1 p2 M1) fun v1 M2 =>
    if 0 ≤ v1 then (bd (x_putsBy 52 M2) fun _ M3 =>
    lt (M3.si 20 67 0) fun M4 =>
    bd (x_tells (Int32.toInt64 (M4.i 20 44)) M4) fun _ M5 =>
    some (v1, M5))
    else (some (v1, M2))

set_option maxHeartbeats 4000000 in
theorem t_x_say (G : JG) (p1 : Int32) (p2 : Int32) (M : PM) : T_x_say G  M 0 (ent [.ref 20, .int p1, .int p2] 4) [] (x_say p1 p2 M) := by
  unfold x_say
  refine J_aload_n (pc := 0) dX1_say_0 rfl ?_
  refine J_get (pc := 1) (c := 0) (.ref 52) rfl in_X1 42 (by decide) q226 rfl (fun h => sh_k1 h 0 rfl) (fun h _ => fv_ref (Or.inl ⟨_, rfl⟩) (sh_r h 35 rfl)) dX1_say_1 ?_
  refine J_aload_n (pc := 4) dX1_say_4 rfl ?_
  refine J_get (pc := 5) (c := 0) (.ref 21) rfl in_X1 0 (by decide) q177 rfl (fun h => sh_k1 h 0 rfl) (fun h _ => fv_ref (Or.inl ⟨_, rfl⟩) (sh_r h 4 rfl)) dX1_say_5 ?_
  refine J_callV (pc := 8) (n := 1) (b := 52) (vs := [.ref 21]) (ci := 1) (fun l => C_rd_becomes l 52 21 M) (lw_V q665 q666 q667 q117 q668) nmv_X2_becomes rfl (by omega) (by decide) rfl (fun h => sh_k1 h 32 rfl) rfl (Nat.le_of_ble_eq_true rfl) dX1_say_8 (fun _ M1 => ?_)
  refine J_aload_n (pc := 11) dX1_say_11 rfl ?_
  refine J_aload_n (pc := 12) dX1_say_12 rfl ?_
  refine J_get (pc := 13) (c := 0) (.ref 21) rfl in_X1 0 (by decide) q177 rfl (fun h => sh_k1 h 0 rfl) (fun h _ => fv_ref (Or.inl ⟨_, rfl⟩) (sh_r h 4 rfl)) dX1_say_13 ?_
  refine J_iload_n (pc := 16) dX1_say_16 rfl ?_
  refine J_iload_n (pc := 17) dX1_say_17 rfl ?_
  refine J_callV (pc := 18) (n := 3) (b := 20) (vs := [.ref 21, .int p1, .int p2]) (ci := 0) (fun l => C_x_says l 21 p1 p2 M1) (lw_V q741 q743 qs25 q116 q744) nmv_X1_says rfl (by omega) (by decide) rfl (fun h => sh_k1 h 0 rfl) rfl (Nat.le_of_ble_eq_true rfl) dX1_say_18 (fun v1 M2 => ?_)
  refine J_istore_n (pc := 21) dX1_say_21 (by decide) ?_
  refine J_iload_n (pc := 22) dX1_say_22 rfl ?_
  refine J_if_ge (pc := 23) 28 dX1_say_23 rfl (fun h => if_pos h) (fun h => if_neg h) (fun _ => ?_) (fun _ => ?_)
  · refine J_aload_n (pc := 28) dX1_say_28 rfl ?_
    refine J_aload_n (pc := 29) dX1_say_29 rfl ?_
    refine J_get (pc := 30) (c := 0) (.ref 52) rfl in_X1 42 (by decide) q226 rfl (fun h => sh_k1 h 0 rfl) (fun h _ => fv_ref (Or.inl ⟨_, rfl⟩) (sh_r h 35 rfl)) dX1_say_30 ?_
    refine J_callV (pc := 33) (n := 1) (b := 20) (vs := [.ref 52]) (ci := 0) (fun l => C_x_putsBy l 52 M2) (lw_V q728 q730 qs24 q116 q731) nmv_X1_putsBy rfl (by omega) (by decide) rfl (fun h => sh_k1 h 0 rfl) rfl (Nat.le_of_ble_eq_true rfl) dX1_say_33 (fun _ M3 => ?_)
    refine J_aload_n (pc := 36) dX1_say_36 rfl ?_
    refine J_iconst (pc := 37) 0 dX1_say_37 (by decide) ?_
    refine J_put (pc := 38) (a := 20) (v := .int 0) (M' := M3.si 20 67 0) (c := 0) rfl in_X1 tyX1_ok fnX1 67 (by decide) q251 rfl (Or.inl rfl) (fun h => sh_k1 h 0 rfl) (fun _ => rfl) (fun _ => rfl) ⟨⟨rfl, rfl⟩, rfl⟩ (fun _ hb => up2_same hb) (fun _ _ => rfl) (fun _ _ => rfl) (put_i (fun _ _ _ => rfl)) (fun h => Sh_si h) dX1_say_38 ?_
    refine J_ltM (fun M4 => ?_)
    refine J_aload_n (pc := 41) dX1_say_41 rfl ?_
    refine J_aload_n (pc := 42) dX1_say_42 rfl ?_
    refine J_get (pc := 43) (c := 0) (.int (M4.i 20 44)) rfl in_X1 44 (by decide) q228 rfl (fun h => sh_k1 h 0 rfl) (fun _ _ => rfl) dX1_say_43 ?_
    refine J_i2l (pc := 46) dX1_say_46 ?_
    refine J_callV (pc := 47) (n := 1) (b := 20) (vs := [.long (Int32.toInt64 (M4.i 20 44))]) (ci := 0) (fun l => C_x_tells l (Int32.toInt64 (M4.i 20 44)) M4) (lw_V q708 q710 qs20 q116 q711) nmv_X1_tells rfl (by omega) (by decide) rfl (fun h => sh_k1 h 0 rfl) rfl (Nat.le_of_ble_eq_true rfl) dX1_say_47 (fun _ M5 => ?_)
    refine J_iload_n (pc := 50) dX1_say_50 rfl ?_
    exact J_iret (pc := 51) dX1_say_51
  · refine J_iload_n (pc := 26) dX1_say_26 rfl ?_
    exact J_iret (pc := 27) dX1_say_27

theorem C_x_say (l : Launch) (p1 : Int32) (p2 : Int32) (M : PM) : Ctr l Sh yX1_say cX1_say 4 (some .int) 143 rvI [.ref 20, .int p1, .int p2] M (x_say p1 p2 M) := Ctr.of (by decide +kernel) (Nat.le_of_ble_eq_true rfl) (fun G => t_x_say G p1 p2 M)

abbrev T_x_givesAlms (G : JG) (M : PM) (pc : Nat) (L : List (Option Value)) (S : List Value) (o : Option (Int32 × PM)) : Prop := JJ G cX1_givesAlms yX1_givesAlms 4 3 (some .int) Sh (finR G Sh rvI) M pc L S o
def x_givesAlms (p1 : Int32) (p2 : Int32) (p3 : Int32) (M : PM) : Option (Int32 × PM) :=
    bd (x_isTraveller p1 M) fun v1 M1 =>
    if v1 = 0 then (some ((-1), M1))
    else (bd (x_isTraveller p2 M1) fun v2 M2 =>
    if v2 = 0 then (some ((-1), M2))
    else (if p1 = p2 then (some ((-1), M2))
    else (bd (x_in (Int32.toInt64 p3) 1 9999 M2) fun v3 M3 =>
    if v3 = 0 then (some ((-1), M3))
    else (ck p1 4 <|
    ck p2 4 <|
    if (M3.i 22 (ix p1)) = (M3.i 22 (ix p2)) then (ck p1 4 <|
    if p3 ≤ (M3.i 23 (ix p1)) then (ck p1 4 <|
    ck p1 4 <|
    lt (M3.si 23 (ix p1) ((M3.i 23 (ix p1)) - p3)) fun M4 =>
    ck p2 4 <|
    ck p2 4 <|
    lt (M4.si 23 (ix p2) (imin 9999 ((M4.i 23 (ix p2)) + p3))) fun M5 =>
    ck p2 4 <|
    some ((M5.i 23 (ix p2)), M5))
    else (some ((-2), M3)))
    else (some ((-3), M3))))))

set_option maxHeartbeats 4000000 in
theorem t_x_givesAlms (G : JG) (p1 : Int32) (p2 : Int32) (p3 : Int32) (M : PM) : T_x_givesAlms G  M 0 (ent [.ref 20, .int p1, .int p2, .int p3] 4) [] (x_givesAlms p1 p2 p3 M) := by
  unfold x_givesAlms
  refine J_aload_n (pc := 0) dX1_givesAlms_0 rfl ?_
  refine J_iload_n (pc := 1) dX1_givesAlms_1 rfl ?_
  refine J_callV (pc := 2) (n := 1) (b := 20) (vs := [.int p1]) (ci := 0) (fun l => C_x_isTraveller l p1 M) (lw_V q720 q722 qs22 q116 q723) nmv_X1_isTraveller rfl (by omega) (by decide) rfl (fun h => sh_k1 h 0 rfl) rfl (Nat.le_of_ble_eq_true rfl) dX1_givesAlms_2 (fun v1 M1 => ?_)
  refine J_if_eq (pc := 5) 33 dX1_givesAlms_5 rfl (fun h => if_pos h) (fun h => if_neg h) (fun _ => ?_) (fun _ => ?_)
  · refine J_iconst (pc := 33) (-1) dX1_givesAlms_33 (by decide) ?_
    exact J_iret (pc := 34) dX1_givesAlms_34
  · refine J_aload_n (pc := 8) dX1_givesAlms_8 rfl ?_
    refine J_iload_n (pc := 9) dX1_givesAlms_9 rfl ?_
    refine J_callV (pc := 10) (n := 1) (b := 20) (vs := [.int p2]) (ci := 0) (fun l => C_x_isTraveller l p2 M1) (lw_V q720 q722 qs22 q116 q723) nmv_X1_isTraveller rfl (by omega) (by decide) rfl (fun h => sh_k1 h 0 rfl) rfl (Nat.le_of_ble_eq_true rfl) dX1_givesAlms_10 (fun v2 M2 => ?_)
    refine J_if_eq (pc := 13) 33 dX1_givesAlms_13 rfl (fun h => if_pos h) (fun h => if_neg h) (fun _ => ?_) (fun _ => ?_)
    · refine J_iconst (pc := 33) (-1) dX1_givesAlms_33 (by decide) ?_
      exact J_iret (pc := 34) dX1_givesAlms_34
    · refine J_iload_n (pc := 16) dX1_givesAlms_16 rfl ?_
      refine J_iload_n (pc := 17) dX1_givesAlms_17 rfl ?_
      refine J_icmp_eq (pc := 18) 33 dX1_givesAlms_18 rfl (fun h => if_pos h) (fun h => if_neg h) (fun _ => ?_) (fun _ => ?_)
      · refine J_iconst (pc := 33) (-1) dX1_givesAlms_33 (by decide) ?_
        exact J_iret (pc := 34) dX1_givesAlms_34
      · refine J_iload_n (pc := 21) dX1_givesAlms_21 rfl ?_
        refine J_i2l (pc := 22) dX1_givesAlms_22 ?_
        refine J_lconst (pc := 23) 1 dX1_givesAlms_23 (by decide) ?_
        refine J_ldc2 (pc := 24) 9999 q772 dX1_givesAlms_24 ?_
        refine J_callS (pc := 27) (n := 3) (vs := [.long (Int32.toInt64 p3), .long 1, .long 9999]) (fun l => C_x_in l (Int32.toInt64 p3) 1 9999 M2) (lw_S q398 q399 q116 q400) nmh_X1_in rfl (by omega) (by decide) rfl (Nat.le_of_ble_eq_true rfl) dX1_givesAlms_27 (fun v3 M3 => ?_)
        refine J_if_ne (pc := 30) 35 dX1_givesAlms_30 rfl (fun h => if_neg h) (fun h => if_pos h) (fun _ => ?_) (fun _ => ?_)
        · refine J_aload_n (pc := 35) dX1_givesAlms_35 rfl ?_
          refine J_get (pc := 36) (c := 0) (.ref 21) rfl in_X1 0 (by decide) q177 rfl (fun h => sh_k1 h 0 rfl) (fun h _ => fv_ref (Or.inl ⟨_, rfl⟩) (sh_r h 4 rfl)) dX1_givesAlms_36 ?_
          refine J_getN (host := "TollOnVowels") (pc := 39) (c := 1) (.ref 22) rfl in_X2 0 (by decide) (by decide +kernel) rfl (fun h => sh_k1 h 1 rfl) (fun h _ => fv_ref (Or.inr ⟨_, rfl⟩) (sh_r h 0 rfl)) dX1_givesAlms_39 ?_
          refine J_iload_n (pc := 42) dX1_givesAlms_42 rfl ?_
          refine J_ck (fun h1 => ?_)
          refine J_iald (pc := 43) (a := 22) (fun h => sh_a h 2 rfl h1) dX1_givesAlms_43 ?_
          refine J_aload_n (pc := 44) dX1_givesAlms_44 rfl ?_
          refine J_get (pc := 45) (c := 0) (.ref 21) rfl in_X1 0 (by decide) q177 rfl (fun h => sh_k1 h 0 rfl) (fun h _ => fv_ref (Or.inl ⟨_, rfl⟩) (sh_r h 4 rfl)) dX1_givesAlms_45 ?_
          refine J_getN (host := "TollOnVowels") (pc := 48) (c := 1) (.ref 22) rfl in_X2 0 (by decide) (by decide +kernel) rfl (fun h => sh_k1 h 1 rfl) (fun h _ => fv_ref (Or.inr ⟨_, rfl⟩) (sh_r h 0 rfl)) dX1_givesAlms_48 ?_
          refine J_iload_n (pc := 51) dX1_givesAlms_51 rfl ?_
          refine J_ck (fun h2 => ?_)
          refine J_iald (pc := 52) (a := 22) (fun h => sh_a h 2 rfl h2) dX1_givesAlms_52 ?_
          refine J_icmp_eq (pc := 53) 59 dX1_givesAlms_53 rfl (fun h => if_pos h) (fun h => if_neg h) (fun _ => ?_) (fun _ => ?_)
          · refine J_aload_n (pc := 59) dX1_givesAlms_59 rfl ?_
            refine J_get (pc := 60) (c := 0) (.ref 21) rfl in_X1 0 (by decide) q177 rfl (fun h => sh_k1 h 0 rfl) (fun h _ => fv_ref (Or.inl ⟨_, rfl⟩) (sh_r h 4 rfl)) dX1_givesAlms_60 ?_
            refine J_getN (host := "TollOnVowels") (pc := 63) (c := 1) (.ref 23) rfl in_X2 1 (by decide) (by decide +kernel) rfl (fun h => sh_k1 h 1 rfl) (fun h _ => fv_ref (Or.inr ⟨_, rfl⟩) (sh_r h 1 rfl)) dX1_givesAlms_63 ?_
            refine J_iload_n (pc := 66) dX1_givesAlms_66 rfl ?_
            refine J_ck (fun h3 => ?_)
            refine J_iald (pc := 67) (a := 23) (fun h => sh_a h 3 rfl h3) dX1_givesAlms_67 ?_
            refine J_iload_n (pc := 68) dX1_givesAlms_68 rfl ?_
            refine J_icmp_ge (pc := 69) 75 dX1_givesAlms_69 rfl (fun h => if_pos h) (fun h => if_neg h) (fun _ => ?_) (fun _ => ?_)
            · refine J_aload_n (pc := 75) dX1_givesAlms_75 rfl ?_
              refine J_get (pc := 76) (c := 0) (.ref 21) rfl in_X1 0 (by decide) q177 rfl (fun h => sh_k1 h 0 rfl) (fun h _ => fv_ref (Or.inl ⟨_, rfl⟩) (sh_r h 4 rfl)) dX1_givesAlms_76 ?_
              refine J_getN (host := "TollOnVowels") (pc := 79) (c := 1) (.ref 23) rfl in_X2 1 (by decide) (by decide +kernel) rfl (fun h => sh_k1 h 1 rfl) (fun h _ => fv_ref (Or.inr ⟨_, rfl⟩) (sh_r h 1 rfl)) dX1_givesAlms_79 ?_
              refine J_iload_n (pc := 82) dX1_givesAlms_82 rfl ?_
              refine J_dup2 (pc := 83) dX1_givesAlms_83 rfl rfl ?_
              refine J_ck (fun h4 => ?_)
              refine J_iald (pc := 84) (a := 23) (fun h => sh_a h 3 rfl h4) dX1_givesAlms_84 ?_
              refine J_iload_n (pc := 85) dX1_givesAlms_85 rfl ?_
              refine J_isub (pc := 86) dX1_givesAlms_86 ?_
              refine J_ck (fun h5 => ?_)
              refine J_iast (pc := 87) (a := 23) (fun h => sh_a h 3 rfl h5) (fun h => Sh_si h) dX1_givesAlms_87 ?_
              refine J_ltM (fun M4 => ?_)
              refine J_aload_n (pc := 88) dX1_givesAlms_88 rfl ?_
              refine J_get (pc := 89) (c := 0) (.ref 21) rfl in_X1 0 (by decide) q177 rfl (fun h => sh_k1 h 0 rfl) (fun h _ => fv_ref (Or.inl ⟨_, rfl⟩) (sh_r h 4 rfl)) dX1_givesAlms_89 ?_
              refine J_getN (host := "TollOnVowels") (pc := 92) (c := 1) (.ref 23) rfl in_X2 1 (by decide) (by decide +kernel) rfl (fun h => sh_k1 h 1 rfl) (fun h _ => fv_ref (Or.inr ⟨_, rfl⟩) (sh_r h 1 rfl)) dX1_givesAlms_92 ?_
              refine J_iload_n (pc := 95) dX1_givesAlms_95 rfl ?_
              refine J_sipush (pc := 96) 9999 dX1_givesAlms_96 (by decide) ?_
              refine J_aload_n (pc := 99) dX1_givesAlms_99 rfl ?_
              refine J_get (pc := 100) (c := 0) (.ref 21) rfl in_X1 0 (by decide) q177 rfl (fun h => sh_k1 h 0 rfl) (fun h _ => fv_ref (Or.inl ⟨_, rfl⟩) (sh_r h 4 rfl)) dX1_givesAlms_100 ?_
              refine J_getN (host := "TollOnVowels") (pc := 103) (c := 1) (.ref 23) rfl in_X2 1 (by decide) (by decide +kernel) rfl (fun h => sh_k1 h 1 rfl) (fun h _ => fv_ref (Or.inr ⟨_, rfl⟩) (sh_r h 1 rfl)) dX1_givesAlms_103 ?_
              refine J_iload_n (pc := 106) dX1_givesAlms_106 rfl ?_
              refine J_ck (fun h6 => ?_)
              refine J_iald (pc := 107) (a := 23) (fun h => sh_a h 3 rfl h6) dX1_givesAlms_107 ?_
              refine J_iload_n (pc := 108) dX1_givesAlms_108 rfl ?_
              refine J_iadd (pc := 109) dX1_givesAlms_109 ?_
              refine J_min (pc := 110) (by omega) q409 q410 q119 q411 (Nat.le_of_ble_eq_true rfl) dX1_givesAlms_110 ?_
              refine J_ck (fun h7 => ?_)
              refine J_iast (pc := 113) (a := 23) (fun h => sh_a h 3 rfl h7) (fun h => Sh_si h) dX1_givesAlms_113 ?_
              refine J_ltM (fun M5 => ?_)
              refine J_aload_n (pc := 114) dX1_givesAlms_114 rfl ?_
              refine J_get (pc := 115) (c := 0) (.ref 21) rfl in_X1 0 (by decide) q177 rfl (fun h => sh_k1 h 0 rfl) (fun h _ => fv_ref (Or.inl ⟨_, rfl⟩) (sh_r h 4 rfl)) dX1_givesAlms_115 ?_
              refine J_getN (host := "TollOnVowels") (pc := 118) (c := 1) (.ref 23) rfl in_X2 1 (by decide) (by decide +kernel) rfl (fun h => sh_k1 h 1 rfl) (fun h _ => fv_ref (Or.inr ⟨_, rfl⟩) (sh_r h 1 rfl)) dX1_givesAlms_118 ?_
              refine J_iload_n (pc := 121) dX1_givesAlms_121 rfl ?_
              refine J_ck (fun h8 => ?_)
              refine J_iald (pc := 122) (a := 23) (fun h => sh_a h 3 rfl h8) dX1_givesAlms_122 ?_
              exact J_iret (pc := 123) dX1_givesAlms_123
            · refine J_bipush (pc := 72) (-2) dX1_givesAlms_72 (by decide) ?_
              exact J_iret (pc := 74) dX1_givesAlms_74
          · refine J_bipush (pc := 56) (-3) dX1_givesAlms_56 (by decide) ?_
            exact J_iret (pc := 58) dX1_givesAlms_58
        · refine J_iconst (pc := 33) (-1) dX1_givesAlms_33 (by decide) ?_
          exact J_iret (pc := 34) dX1_givesAlms_34

theorem C_x_givesAlms (l : Launch) (p1 : Int32) (p2 : Int32) (p3 : Int32) (M : PM) : Ctr l Sh yX1_givesAlms cX1_givesAlms 4 (some .int) 3 rvI [.ref 20, .int p1, .int p2, .int p3] M (x_givesAlms p1 p2 p3 M) := Ctr.of (by decide +kernel) (Nat.le_of_ble_eq_true rfl) (fun G => t_x_givesAlms G p1 p2 p3 M)

abbrev T_x_alms (G : JG) (M : PM) (pc : Nat) (L : List (Option Value)) (S : List Value) (o : Option (Int32 × PM)) : Prop := JJ G cX1_alms yX1_alms 4 4 (some .int) Sh (finR G Sh rvI) M pc L S o
def x_alms (p1 : Int32) (p2 : Int32) (p3 : Int32) (M : PM) : Option (Int32 × PM) :=
    bd (rd_becomes 52 21 M) fun _ M1 =>
    bd (x_givesAlms p1 p2 p3 M1) fun v1 M2 =>
    bd (x_counts v1 M2) fun v2 M3 =>
    some (v2, M3)

set_option maxHeartbeats 4000000 in
theorem t_x_alms (G : JG) (p1 : Int32) (p2 : Int32) (p3 : Int32) (M : PM) : T_x_alms G  M 0 (ent [.ref 20, .int p1, .int p2, .int p3] 4) [] (x_alms p1 p2 p3 M) := by
  unfold x_alms
  refine J_aload_n (pc := 0) dX1_alms_0 rfl ?_
  refine J_get (pc := 1) (c := 0) (.ref 52) rfl in_X1 42 (by decide) q226 rfl (fun h => sh_k1 h 0 rfl) (fun h _ => fv_ref (Or.inl ⟨_, rfl⟩) (sh_r h 35 rfl)) dX1_alms_1 ?_
  refine J_aload_n (pc := 4) dX1_alms_4 rfl ?_
  refine J_get (pc := 5) (c := 0) (.ref 21) rfl in_X1 0 (by decide) q177 rfl (fun h => sh_k1 h 0 rfl) (fun h _ => fv_ref (Or.inl ⟨_, rfl⟩) (sh_r h 4 rfl)) dX1_alms_5 ?_
  refine J_callV (pc := 8) (n := 1) (b := 52) (vs := [.ref 21]) (ci := 1) (fun l => C_rd_becomes l 52 21 M) (lw_V q665 q666 q667 q117 q668) nmv_X2_becomes rfl (by omega) (by decide) rfl (fun h => sh_k1 h 32 rfl) rfl (Nat.le_of_ble_eq_true rfl) dX1_alms_8 (fun _ M1 => ?_)
  refine J_aload_n (pc := 11) dX1_alms_11 rfl ?_
  refine J_aload_n (pc := 12) dX1_alms_12 rfl ?_
  refine J_iload_n (pc := 13) dX1_alms_13 rfl ?_
  refine J_iload_n (pc := 14) dX1_alms_14 rfl ?_
  refine J_iload_n (pc := 15) dX1_alms_15 rfl ?_
  refine J_callV (pc := 16) (n := 3) (b := 20) (vs := [.int p1, .int p2, .int p3]) (ci := 0) (fun l => C_x_givesAlms l p1 p2 p3 M1) (lw_V q768 q770 qs28 q116 q771) nmv_X1_givesAlms rfl (by omega) (by decide) rfl (fun h => sh_k1 h 0 rfl) rfl (Nat.le_of_ble_eq_true rfl) dX1_alms_16 (fun v1 M2 => ?_)
  refine J_callV (pc := 19) (n := 1) (b := 20) (vs := [.int v1]) (ci := 0) (fun l => C_x_counts l v1 M2) (lw_V q724 q726 qs23 q116 q727) nmv_X1_counts rfl (by omega) (by decide) rfl (fun h => sh_k1 h 0 rfl) rfl (Nat.le_of_ble_eq_true rfl) dX1_alms_19 (fun v2 M3 => ?_)
  exact J_iret (pc := 22) dX1_alms_22

theorem C_x_alms (l : Launch) (p1 : Int32) (p2 : Int32) (p3 : Int32) (M : PM) : Ctr l Sh yX1_alms cX1_alms 4 (some .int) 4 rvI [.ref 20, .int p1, .int p2, .int p3] M (x_alms p1 p2 p3 M) := Ctr.of (by decide +kernel) (Nat.le_of_ble_eq_true rfl) (fun G => t_x_alms G p1 p2 p3 M)

abbrev T_x_paid (G : JG) (M : PM) (pc : Nat) (L : List (Option Value)) (S : List Value) (o : Option (Int32 × PM)) : Prop := JJ G cX1_paid yX1_paid 2 1 (some .boolean) Sh (finR G Sh rvI) M pc L S o
def x_paid (p1 : Int32) (M : PM) : Option (Int32 × PM) :=
    lt (M.si 20 48 ((M.i 20 48) + (imax 0 p1))) fun M1 =>
    if p1 < 0 then (some (0, M1))
    else (some (1, M1))

set_option maxHeartbeats 4000000 in
theorem t_x_paid (G : JG) (p1 : Int32) (M : PM) : T_x_paid G  M 0 (ent [.ref 20, .int p1] 2) [] (x_paid p1 M) := by
  unfold x_paid
  refine J_aload_n (pc := 0) dX1_paid_0 rfl ?_
  refine J_dup (pc := 1) dX1_paid_1 rfl ?_
  refine J_get (pc := 2) (c := 0) (.int (M.i 20 48)) rfl in_X1 48 (by decide) q232 rfl (fun h => sh_k1 h 0 rfl) (fun _ _ => rfl) dX1_paid_2 ?_
  refine J_iconst (pc := 5) 0 dX1_paid_5 (by decide) ?_
  refine J_iload_n (pc := 6) dX1_paid_6 rfl ?_
  refine J_max (pc := 7) (by omega) q564 q454 q119 q455 (Nat.le_of_ble_eq_true rfl) dX1_paid_7 ?_
  refine J_iadd (pc := 10) dX1_paid_10 ?_
  refine J_put (pc := 11) (a := 20) (v := .int ((M.i 20 48) + (imax 0 p1))) (M' := M.si 20 48 ((M.i 20 48) + (imax 0 p1))) (c := 0) rfl in_X1 tyX1_ok fnX1 48 (by decide) q232 rfl (Or.inl rfl) (fun h => sh_k1 h 0 rfl) (fun _ => rfl) (fun _ => rfl) ⟨⟨rfl, rfl⟩, rfl⟩ (fun _ hb => up2_same hb) (fun _ _ => rfl) (fun _ _ => rfl) (put_i (fun _ _ _ => rfl)) (fun h => Sh_si h) dX1_paid_11 ?_
  refine J_ltM (fun M1 => ?_)
  refine J_iload_n (pc := 14) dX1_paid_14 rfl ?_
  refine J_if_lt (pc := 15) 22 dX1_paid_15 rfl (fun h => if_pos h) (fun h => if_neg h) (fun _ => ?_) (fun _ => ?_)
  · refine J_iconst (pc := 22) 0 dX1_paid_22 (by decide) ?_
    exact J_zret (pc := 23) rfl dX1_paid_23
  · refine J_iconst (pc := 18) 1 dX1_paid_18 (by decide) ?_
    refine J_goto (pc := 19) 23 dX1_paid_19 rfl ?_
    exact J_zret (pc := 23) rfl dX1_paid_23

theorem C_x_paid (l : Launch) (p1 : Int32) (M : PM) : Ctr l Sh yX1_paid cX1_paid 2 (some .boolean) 1 rvI [.ref 20, .int p1] M (x_paid p1 M) := Ctr.of (by decide +kernel) (Nat.le_of_ble_eq_true rfl) (fun G => t_x_paid G p1 M)

abbrev T_x_tollNow (G : JG) (M : PM) (pc : Nat) (L : List (Option Value)) (S : List Value) (o : Option (Int32 × PM)) : Prop := JJ G cX1_tollNow yX1_tollNow 3 142 (some .int) Sh (finR G Sh rvI) M pc L S o
def x_tollNow (p1 : Int32) (p2 : Int32) (M : PM) : Option (Int32 × PM) :=
    bd (x_tollOf p1 p2 (M.i 21 4) M) fun v1 M1 =>
    some (v1, M1)

set_option maxHeartbeats 4000000 in
theorem t_x_tollNow (G : JG) (p1 : Int32) (p2 : Int32) (M : PM) : T_x_tollNow G  M 0 (ent [.ref 20, .int p1, .int p2] 3) [] (x_tollNow p1 p2 M) := by
  unfold x_tollNow
  refine J_aload_n (pc := 0) dX1_tollNow_0 rfl ?_
  refine J_iload_n (pc := 1) dX1_tollNow_1 rfl ?_
  refine J_iload_n (pc := 2) dX1_tollNow_2 rfl ?_
  refine J_aload_n (pc := 3) dX1_tollNow_3 rfl ?_
  refine J_get (pc := 4) (c := 0) (.ref 21) rfl in_X1 0 (by decide) q177 rfl (fun h => sh_k1 h 0 rfl) (fun h _ => fv_ref (Or.inl ⟨_, rfl⟩) (sh_r h 4 rfl)) dX1_tollNow_4 ?_
  refine J_getN (host := "TollOnVowels") (pc := 7) (c := 1) (.int (M.i 21 4)) rfl in_X2 4 (by decide) (by decide +kernel) rfl (fun h => sh_k1 h 1 rfl) (fun _ _ => rfl) dX1_tollNow_7 ?_
  refine J_callV (pc := 10) (n := 3) (b := 20) (vs := [.int p1, .int p2, .int (M.i 21 4)]) (ci := 0) (fun l => C_x_tollOf l p1 p2 (M.i 21 4) M) (lw_V q682 q684 qs18 q116 q685) nmv_X1_tollOf rfl (by omega) (by decide) rfl (fun h => sh_k1 h 0 rfl) rfl (Nat.le_of_ble_eq_true rfl) dX1_tollNow_10 (fun v1 M1 => ?_)
  exact J_iret (pc := 13) dX1_tollNow_13

theorem C_x_tollNow (l : Launch) (p1 : Int32) (p2 : Int32) (M : PM) : Ctr l Sh yX1_tollNow cX1_tollNow 3 (some .int) 142 rvI [.ref 20, .int p1, .int p2] M (x_tollNow p1 p2 M) := Ctr.of (by decide +kernel) (Nat.le_of_ble_eq_true rfl) (fun G => t_x_tollNow G p1 p2 M)

abbrev T_x_vowelsOf (G : JG) (M : PM) (pc : Nat) (L : List (Option Value)) (S : List Value) (o : Option (Int32 × PM)) : Prop := JJ G cX1_vowelsOf yX1_vowelsOf 4 7 (some .int) Sh (finR G Sh rvI) M pc L S o
def x_vowelsOf_L4 (c1 : Int32) : Nat → Int32 → Int32 → PM → Option (Int32 × PM)
  | 0, _, _, _ => none
  | n + 1, v1, v2, M1 =>
    ck c1 10 <|
    if (M1.i 32 (ix c1)) ≤ v2 then (some (v1, M1))
    else (bd (x_vowelAt c1 v2 M1) fun v3 M2 =>
    lt (if v3 < 0 then 0 else 1 : Int32) fun v4 =>
    lt (v1 + v4) fun v5 =>
    lt (v2 + 1) fun v6 =>
    x_vowelsOf_L4 c1 n v5 v6 M2)

set_option maxHeartbeats 4000000 in
theorem t_x_vowelsOf_L4 (G : JG) (c1 : Int32) : ∀ (n : Nat) (v1 : Int32) (v2 : Int32) (M1 : PM), T_x_vowelsOf G  M1 4 [some (.ref 20), some (.int c1), some (.int v1), some (.int v2)] [] (x_vowelsOf_L4 c1 n v1 v2 M1) := by
  intro n
  induction n with
  | zero =>
    intro v1 v2 M1
    exact J_none
  | succ n ih =>
    intro v1 v2 M1
    rw [x_vowelsOf_L4]
    refine J_iload_n (pc := 4) dX1_vowelsOf_4 rfl ?_
    refine J_aload_n (pc := 5) dX1_vowelsOf_5 rfl ?_
    refine J_get (pc := 6) (c := 0) (.ref 32) rfl in_X1 3 (by decide) q180 rfl (fun h => sh_k1 h 0 rfl) (fun h _ => fv_ref (Or.inr ⟨_, rfl⟩) (sh_r h 11 rfl)) dX1_vowelsOf_6 ?_
    refine J_iload_n (pc := 9) dX1_vowelsOf_9 rfl ?_
    refine J_ck (fun h1 => ?_)
    refine J_iald (pc := 10) (a := 32) (fun h => sh_a h 12 rfl h1) dX1_vowelsOf_10 ?_
    refine J_icmp_ge (pc := 11) 37 dX1_vowelsOf_11 rfl (fun h => if_pos h) (fun h => if_neg h) (fun _ => ?_) (fun _ => ?_)
    · refine J_iload_n (pc := 37) dX1_vowelsOf_37 rfl ?_
      exact J_iret (pc := 38) dX1_vowelsOf_38
    · refine J_iload_n (pc := 14) dX1_vowelsOf_14 rfl ?_
      refine J_aload_n (pc := 15) dX1_vowelsOf_15 rfl ?_
      refine J_iload_n (pc := 16) dX1_vowelsOf_16 rfl ?_
      refine J_iload_n (pc := 17) dX1_vowelsOf_17 rfl ?_
      refine J_callV (pc := 18) (n := 2) (b := 20) (vs := [.int c1, .int v2]) (ci := 0) (fun l => C_x_vowelAt l c1 v2 M1) (lw_V q686 q688 qs19 q116 q689) nmv_X1_vowelAt rfl (by omega) (by decide) rfl (fun h => sh_k1 h 0 rfl) rfl (Nat.le_of_ble_eq_true rfl) dX1_vowelsOf_18 (fun v3 M2 => ?_)
      refine J_ltj (β := Int32) (P := fun J => ∀ v4 : Int32, T_x_vowelsOf G M2 29 [some (.ref 20), some (.int c1), none, some (.int v2)] [.int v4, .int v1] (J v4)) (fun v4 => ?_) (fun j1 hj1 => ?_)
      · refine J_iadd (pc := 29) dX1_vowelsOf_29 ?_
        refine J_lt (β := Int32) (v := (v1 + v4)) (L := fun _ => _) (S := fun v5 => [.int v5]) (fun v5 => ?_)
        refine J_istore_n (pc := 30) dX1_vowelsOf_30 (by decide) ?_
        refine J_iincL (pc := 31) (n := 1) (by decide) dX1_vowelsOf_31 rfl (by decide) (fun v6 => ?_)
        refine J_goto (pc := 34) 4 dX1_vowelsOf_34 rfl ?_
        exact J_sub (A := [some (.ref 20), some (.int c1), some (.int v5), some (.int v6)]) ⟨rfl, ⟨rfl, ⟨rfl, ⟨rfl, trivial⟩⟩⟩⟩ (ih v5 v6 M2)
      refine J_if_lt (pc := 21) 28 dX1_vowelsOf_21 rfl (fun h => congrArg j1 (if_pos h)) (fun h => congrArg j1 (if_neg h)) (fun _ => ?_) (fun _ => ?_)
      · refine J_iconst (pc := 28) 0 dX1_vowelsOf_28 (by decide) ?_
        exact J_sub (A := [some (.ref 20), some (.int c1), none, some (.int v2)]) ⟨rfl, ⟨rfl, ⟨rfl, trivial⟩⟩⟩ (hj1 0)
      · refine J_iconst (pc := 24) 1 dX1_vowelsOf_24 (by decide) ?_
        refine J_goto (pc := 25) 29 dX1_vowelsOf_25 rfl ?_
        exact J_sub (A := [some (.ref 20), some (.int c1), none, some (.int v2)]) ⟨rfl, ⟨rfl, ⟨rfl, trivial⟩⟩⟩ (hj1 1)

def x_vowelsOf (p1 : Int32) (M : PM) : Option (Int32 × PM) :=
    x_vowelsOf_L4 p1 FU 0 0 M

set_option maxHeartbeats 4000000 in
theorem t_x_vowelsOf (G : JG) (p1 : Int32) (M : PM) : T_x_vowelsOf G  M 0 (ent [.ref 20, .int p1] 4) [] (x_vowelsOf p1 M) := by
  unfold x_vowelsOf
  refine J_iconst (pc := 0) 0 dX1_vowelsOf_0 (by decide) ?_
  refine J_istore_n (pc := 1) dX1_vowelsOf_1 (by decide) ?_
  refine J_iconst (pc := 2) 0 dX1_vowelsOf_2 (by decide) ?_
  refine J_istore_n (pc := 3) dX1_vowelsOf_3 (by decide) ?_
  refine J_sub (A := [some (.ref 20), some (.int p1), some (.int 0), some (.int 0)]) ⟨rfl, ⟨rfl, ⟨rfl, ⟨rfl, trivial⟩⟩⟩⟩ (t_x_vowelsOf_L4 G p1  FU 0 0 M)

theorem C_x_vowelsOf (l : Launch) (p1 : Int32) (M : PM) : Ctr l Sh yX1_vowelsOf cX1_vowelsOf 4 (some .int) 7 rvI [.ref 20, .int p1] M (x_vowelsOf p1 M) := Ctr.of (by decide +kernel) (Nat.le_of_ble_eq_true rfl) (fun G => t_x_vowelsOf G p1 M)

abbrev T_x_cheapestFor (G : JG) (M : PM) (pc : Nat) (L : List (Option Value)) (S : List Value) (o : Option (Int32 × PM)) : Prop := JJ G cX1_cheapestFor yX1_cheapestFor 8 143 (some .int) Sh (finR G Sh rvI) M pc L S o
def x_cheapestFor_L11 (c1 : Int32) (c2 : Int32) (c3 : Int32) : Nat → Int32 → Int32 → Int32 → PM → Option (Int32 × PM)
  | 0, _, _, _, _ => none
  | n + 1, v1, v2, v3, M1 =>
    if (M1.i 20 11) ≤ v3 then (some (v1, M1))
    else (bd (x_means v3 c1 M1) fun v4 M2 =>
    jn (fun (v5 : Int32) (M3 : PM) =>
    lt (if v2 ≤ v5 then v1 else v3 : Int32) fun v6 =>
    lt (imin v2 v5) fun v7 =>
    lt (v3 + 1) fun v8 =>
    x_cheapestFor_L11 c1 c2 c3 n v6 v7 v8 M3) fun j1 =>
    if v4 = 0 then (j1 1000000000 M2)
    else (bd (x_tollNow v3 c2 M2) fun v9 M4 =>
    bd (x_vowelsOf v3 M4) fun v10 M5 =>
    j1 (v9 + (c3 * v10)) M5))

set_option maxHeartbeats 4000000 in
theorem t_x_cheapestFor_L11 (G : JG) (c1 : Int32) (c2 : Int32) (c3 : Int32) : ∀ (n : Nat) (v1 : Int32) (v2 : Int32) (v3 : Int32) (M1 : PM), T_x_cheapestFor G  M1 11 [some (.ref 20), some (.int c1), some (.int c2), some (.int c3), some (.int v1), some (.int v2), some (.int v3), none] [] (x_cheapestFor_L11 c1 c2 c3 n v1 v2 v3 M1) := by
  intro n
  induction n with
  | zero =>
    intro v1 v2 v3 M1
    exact J_none
  | succ n ih =>
    intro v1 v2 v3 M1
    rw [x_cheapestFor_L11]
    refine J_iload (pc := 11) dX1_cheapestFor_11 rfl ?_
    refine J_aload_n (pc := 13) dX1_cheapestFor_13 rfl ?_
    refine J_get (pc := 14) (c := 0) (.int (M1.i 20 11)) rfl in_X1 11 (by decide) q188 rfl (fun h => sh_k1 h 0 rfl) (fun _ _ => rfl) dX1_cheapestFor_14 ?_
    refine J_icmp_ge (pc := 17) 85 dX1_cheapestFor_17 rfl (fun h => if_pos h) (fun h => if_neg h) (fun _ => ?_) (fun _ => ?_)
    · refine J_iload (pc := 85) dX1_cheapestFor_85 rfl ?_
      exact J_iret (pc := 87) dX1_cheapestFor_87
    · refine J_aload_n (pc := 20) dX1_cheapestFor_20 rfl ?_
      refine J_iload (pc := 21) dX1_cheapestFor_21 rfl ?_
      refine J_iload_n (pc := 23) dX1_cheapestFor_23 rfl ?_
      refine J_callV (pc := 24) (n := 2) (b := 20) (vs := [.int v3, .int c1]) (ci := 0) (fun l => C_x_means l v3 c1 M1) (lw_V q760 q762 qs27 q116 q763) nmv_X1_means rfl (by omega) (by decide) rfl (fun h => sh_k1 h 0 rfl) rfl (Nat.le_of_ble_eq_true rfl) dX1_cheapestFor_24 (fun v4 M2 => ?_)
      refine J_jn (P := fun J => ∀ (v5 : Int32) (M3 : PM), T_x_cheapestFor G  M3 52 [some (.ref 20), some (.int c1), some (.int c2), some (.int c3), some (.int v1), some (.int v2), some (.int v3), none] [.int v5] (J v5 M3)) (fun v5 M3 => ?_) (fun j1 hj1 => ?_)
      · refine J_istore (pc := 52) dX1_cheapestFor_52 (by decide) ?_
        refine J_iload (pc := 54) dX1_cheapestFor_54 rfl ?_
        refine J_iload (pc := 56) dX1_cheapestFor_56 rfl ?_
        refine J_ltj (β := Int32) (P := fun J => ∀ v6 : Int32, T_x_cheapestFor G M3 68 [some (.ref 20), some (.int c1), some (.int c2), some (.int c3), none, some (.int v2), some (.int v3), some (.int v5)] [.int v6] (J v6)) (fun v6 => ?_) (fun j2 hj2 => ?_)
        · refine J_istore (pc := 68) dX1_cheapestFor_68 (by decide) ?_
          refine J_iload (pc := 70) dX1_cheapestFor_70 rfl ?_
          refine J_iload (pc := 72) dX1_cheapestFor_72 rfl ?_
          refine J_min (pc := 74) (by omega) q409 q410 q119 q411 (Nat.le_of_ble_eq_true rfl) dX1_cheapestFor_74 ?_
          refine J_lt (β := Int32) (v := (imin v2 v5)) (L := fun _ => _) (S := fun v7 => [.int v7]) (fun v7 => ?_)
          refine J_istore (pc := 77) dX1_cheapestFor_77 (by decide) ?_
          refine J_iincL (pc := 79) (n := 1) (by decide) dX1_cheapestFor_79 rfl (by decide) (fun v8 => ?_)
          refine J_goto (pc := 82) 11 dX1_cheapestFor_82 rfl ?_
          exact J_sub (A := [some (.ref 20), some (.int c1), some (.int c2), some (.int c3), some (.int v6), some (.int v7), some (.int v8), none]) ⟨rfl, ⟨rfl, ⟨rfl, ⟨rfl, ⟨rfl, ⟨rfl, ⟨rfl, trivial⟩⟩⟩⟩⟩⟩⟩ (ih v6 v7 v8 M3)
        refine J_icmp_ge (pc := 58) 66 dX1_cheapestFor_58 rfl (fun h => congrArg j2 (if_pos h)) (fun h => congrArg j2 (if_neg h)) (fun _ => ?_) (fun _ => ?_)
        · refine J_iload (pc := 66) dX1_cheapestFor_66 rfl ?_
          exact J_sub (A := [some (.ref 20), some (.int c1), some (.int c2), some (.int c3), none, some (.int v2), some (.int v3), some (.int v5)]) ⟨rfl, ⟨rfl, ⟨rfl, ⟨rfl, ⟨rfl, ⟨rfl, ⟨rfl, trivial⟩⟩⟩⟩⟩⟩⟩ (hj2 v1)
        · refine J_iload (pc := 61) dX1_cheapestFor_61 rfl ?_
          refine J_goto (pc := 63) 68 dX1_cheapestFor_63 rfl ?_
          exact J_sub (A := [some (.ref 20), some (.int c1), some (.int c2), some (.int c3), none, some (.int v2), some (.int v3), some (.int v5)]) ⟨rfl, ⟨rfl, ⟨rfl, ⟨rfl, ⟨rfl, ⟨rfl, ⟨rfl, trivial⟩⟩⟩⟩⟩⟩⟩ (hj2 v3)
      refine J_if_eq (pc := 27) 49 dX1_cheapestFor_27 rfl (fun h => if_pos h) (fun h => if_neg h) (fun _ => ?_) (fun _ => ?_)
      · refine J_ldcw (pc := 49) 1000000000 q799 dX1_cheapestFor_49 ?_
        exact J_sub (A := [some (.ref 20), some (.int c1), some (.int c2), some (.int c3), some (.int v1), some (.int v2), some (.int v3), none]) ⟨rfl, ⟨rfl, ⟨rfl, ⟨rfl, ⟨rfl, ⟨rfl, ⟨rfl, trivial⟩⟩⟩⟩⟩⟩⟩ (hj1 1000000000 M2)
      · refine J_aload_n (pc := 30) dX1_cheapestFor_30 rfl ?_
        refine J_iload (pc := 31) dX1_cheapestFor_31 rfl ?_
        refine J_iload_n (pc := 33) dX1_cheapestFor_33 rfl ?_
        refine J_callV (pc := 34) (n := 2) (b := 20) (vs := [.int v3, .int c2]) (ci := 0) (fun l => C_x_tollNow l v3 c2 M2) (lw_V q800 q802 qs34 q116 q803) nmv_X1_tollNow rfl (by omega) (by decide) rfl (fun h => sh_k1 h 0 rfl) rfl (Nat.le_of_ble_eq_true rfl) dX1_cheapestFor_34 (fun v9 M4 => ?_)
        refine J_iload_n (pc := 37) dX1_cheapestFor_37 rfl ?_
        refine J_aload_n (pc := 38) dX1_cheapestFor_38 rfl ?_
        refine J_iload (pc := 39) dX1_cheapestFor_39 rfl ?_
        refine J_callV (pc := 41) (n := 1) (b := 20) (vs := [.int v3]) (ci := 0) (fun l => C_x_vowelsOf l v3 M4) (lw_V q804 q806 qs35 q116 q807) nmv_X1_vowelsOf rfl (by omega) (by decide) rfl (fun h => sh_k1 h 0 rfl) rfl (Nat.le_of_ble_eq_true rfl) dX1_cheapestFor_41 (fun v10 M5 => ?_)
        refine J_imul (pc := 44) dX1_cheapestFor_44 ?_
        refine J_iadd (pc := 45) dX1_cheapestFor_45 ?_
        refine J_goto (pc := 46) 52 dX1_cheapestFor_46 rfl ?_
        exact J_sub (A := [some (.ref 20), some (.int c1), some (.int c2), some (.int c3), some (.int v1), some (.int v2), some (.int v3), none]) ⟨rfl, ⟨rfl, ⟨rfl, ⟨rfl, ⟨rfl, ⟨rfl, ⟨rfl, trivial⟩⟩⟩⟩⟩⟩⟩ (hj1 (v9 + (c3 * v10)) M5)

def x_cheapestFor (p1 : Int32) (p2 : Int32) (p3 : Int32) (M : PM) : Option (Int32 × PM) :=
    x_cheapestFor_L11 p1 p2 p3 FU (-1) 1000000000 0 M

set_option maxHeartbeats 4000000 in
theorem t_x_cheapestFor (G : JG) (p1 : Int32) (p2 : Int32) (p3 : Int32) (M : PM) : T_x_cheapestFor G  M 0 (ent [.ref 20, .int p1, .int p2, .int p3] 8) [] (x_cheapestFor p1 p2 p3 M) := by
  unfold x_cheapestFor
  refine J_iconst (pc := 0) (-1) dX1_cheapestFor_0 (by decide) ?_
  refine J_istore (pc := 1) dX1_cheapestFor_1 (by decide) ?_
  refine J_ldcw (pc := 3) 1000000000 q799 dX1_cheapestFor_3 ?_
  refine J_istore (pc := 6) dX1_cheapestFor_6 (by decide) ?_
  refine J_iconst (pc := 8) 0 dX1_cheapestFor_8 (by decide) ?_
  refine J_istore (pc := 9) dX1_cheapestFor_9 (by decide) ?_
  refine J_sub (A := [some (.ref 20), some (.int p1), some (.int p2), some (.int p3), some (.int (-1)), some (.int 1000000000), some (.int 0), none]) ⟨rfl, ⟨rfl, ⟨rfl, ⟨rfl, ⟨rfl, ⟨rfl, ⟨rfl, trivial⟩⟩⟩⟩⟩⟩⟩ (t_x_cheapestFor_L11 G p1 p2 p3  FU (-1) 1000000000 0 M)

theorem C_x_cheapestFor (l : Launch) (p1 : Int32) (p2 : Int32) (p3 : Int32) (M : PM) : Ctr l Sh yX1_cheapestFor cX1_cheapestFor 8 (some .int) 143 rvI [.ref 20, .int p1, .int p2, .int p3] M (x_cheapestFor p1 p2 p3 M) := Ctr.of (by decide +kernel) (Nat.le_of_ble_eq_true rfl) (fun G => t_x_cheapestFor G p1 p2 p3 M)

abbrev T_x_errandsOf (G : JG) (M : PM) (pc : Nat) (L : List (Option Value)) (S : List Value) (o : Option (Int32 × PM)) : Prop := JJ G cX1_errandsOf yX1_errandsOf 4 2 (some .int) Sh (finR G Sh rvI) M pc L S o
def x_errandsOf_L4 (c1 : Int32) : Nat → Int32 → Int32 → PM → Option (Int32 × PM)
  | 0, _, _, _ => none
  | n + 1, v1, v2, M1 =>
    if (M1.i 20 13) ≤ v2 then (some (v1, M1))
    else (ck v2 8 <|
    jn (fun (v3 : Int32) (M2 : PM) =>
    lt (v1 ||| v3) fun v4 =>
    lt (v2 + 1) fun v5 =>
    x_errandsOf_L4 c1 n v4 v5 M2) fun j1 =>
    if (M1.i 35 (ix v2)) = c1 then (bd (x_has (M1.i 21 5) v2 M1) fun v6 M3 =>
    if v6 = 0 then (j1 (1 <<< (v2 &&& 31)) M3)
    else (j1 0 M3))
    else (j1 0 M1))

set_option maxHeartbeats 4000000 in
theorem t_x_errandsOf_L4 (G : JG) (c1 : Int32) : ∀ (n : Nat) (v1 : Int32) (v2 : Int32) (M1 : PM), T_x_errandsOf G  M1 4 [some (.ref 20), some (.int c1), some (.int v1), some (.int v2)] [] (x_errandsOf_L4 c1 n v1 v2 M1) := by
  intro n
  induction n with
  | zero =>
    intro v1 v2 M1
    exact J_none
  | succ n ih =>
    intro v1 v2 M1
    rw [x_errandsOf_L4]
    refine J_iload_n (pc := 4) dX1_errandsOf_4 rfl ?_
    refine J_aload_n (pc := 5) dX1_errandsOf_5 rfl ?_
    refine J_get (pc := 6) (c := 0) (.int (M1.i 20 13)) rfl in_X1 13 (by decide) q190 rfl (fun h => sh_k1 h 0 rfl) (fun _ _ => rfl) dX1_errandsOf_6 ?_
    refine J_icmp_ge (pc := 9) 52 dX1_errandsOf_9 rfl (fun h => if_pos h) (fun h => if_neg h) (fun _ => ?_) (fun _ => ?_)
    · refine J_iload_n (pc := 52) dX1_errandsOf_52 rfl ?_
      exact J_iret (pc := 53) dX1_errandsOf_53
    · refine J_iload_n (pc := 12) dX1_errandsOf_12 rfl ?_
      refine J_aload_n (pc := 13) dX1_errandsOf_13 rfl ?_
      refine J_get (pc := 14) (c := 0) (.ref 35) rfl in_X1 6 (by decide) q183 rfl (fun h => sh_k1 h 0 rfl) (fun h _ => fv_ref (Or.inr ⟨_, rfl⟩) (sh_r h 14 rfl)) dX1_errandsOf_14 ?_
      refine J_iload_n (pc := 17) dX1_errandsOf_17 rfl ?_
      refine J_ck (fun h1 => ?_)
      refine J_iald (pc := 18) (a := 35) (fun h => sh_a h 15 rfl h1) dX1_errandsOf_18 ?_
      refine J_iload_n (pc := 19) dX1_errandsOf_19 rfl ?_
      refine J_jn (P := fun J => ∀ (v3 : Int32) (M2 : PM), T_x_errandsOf G  M2 44 [some (.ref 20), some (.int c1), none, some (.int v2)] [.int v3, .int v1] (J v3 M2)) (fun v3 M2 => ?_) (fun j1 hj1 => ?_)
      · refine J_ior (pc := 44) dX1_errandsOf_44 ?_
        refine J_lt (β := Int32) (v := (v1 ||| v3)) (L := fun _ => _) (S := fun v4 => [.int v4]) (fun v4 => ?_)
        refine J_istore_n (pc := 45) dX1_errandsOf_45 (by decide) ?_
        refine J_iincL (pc := 46) (n := 1) (by decide) dX1_errandsOf_46 rfl (by decide) (fun v5 => ?_)
        refine J_goto (pc := 49) 4 dX1_errandsOf_49 rfl ?_
        exact J_sub (A := [some (.ref 20), some (.int c1), some (.int v4), some (.int v5)]) ⟨rfl, ⟨rfl, ⟨rfl, ⟨rfl, trivial⟩⟩⟩⟩ (ih v4 v5 M2)
      refine J_icmp_ne (pc := 20) 43 dX1_errandsOf_20 rfl (fun h => if_neg h) (fun h => if_pos h) (fun _ => ?_) (fun _ => ?_)
      · refine J_iconst (pc := 43) 0 dX1_errandsOf_43 (by decide) ?_
        exact J_sub (A := [some (.ref 20), some (.int c1), none, some (.int v2)]) ⟨rfl, ⟨rfl, ⟨rfl, trivial⟩⟩⟩ (hj1 0 M1)
      · refine J_aload_n (pc := 23) dX1_errandsOf_23 rfl ?_
        refine J_get (pc := 24) (c := 0) (.ref 21) rfl in_X1 0 (by decide) q177 rfl (fun h => sh_k1 h 0 rfl) (fun h _ => fv_ref (Or.inl ⟨_, rfl⟩) (sh_r h 4 rfl)) dX1_errandsOf_24 ?_
        refine J_getN (host := "TollOnVowels") (pc := 27) (c := 1) (.int (M1.i 21 5)) rfl in_X2 5 (by decide) (by decide +kernel) rfl (fun h => sh_k1 h 1 rfl) (fun _ _ => rfl) dX1_errandsOf_27 ?_
        refine J_iload_n (pc := 30) dX1_errandsOf_30 rfl ?_
        refine J_callS (pc := 31) (n := 2) (vs := [.int (M1.i 21 5), .int v2]) (fun l => C_x_has l (M1.i 21 5) v2 M1) (lw_S q757 q758 q116 q759) nmh_X1_has rfl (by omega) (by decide) rfl (Nat.le_of_ble_eq_true rfl) dX1_errandsOf_31 (fun v6 M3 => ?_)
        refine J_if_ne (pc := 34) 43 dX1_errandsOf_34 rfl (fun h => if_neg h) (fun h => if_pos h) (fun _ => ?_) (fun _ => ?_)
        · refine J_iconst (pc := 43) 0 dX1_errandsOf_43 (by decide) ?_
          exact J_sub (A := [some (.ref 20), some (.int c1), none, some (.int v2)]) ⟨rfl, ⟨rfl, ⟨rfl, trivial⟩⟩⟩ (hj1 0 M3)
        · refine J_iconst (pc := 37) 1 dX1_errandsOf_37 (by decide) ?_
          refine J_iload_n (pc := 38) dX1_errandsOf_38 rfl ?_
          refine J_ishl (pc := 39) dX1_errandsOf_39 ?_
          refine J_goto (pc := 40) 44 dX1_errandsOf_40 rfl ?_
          exact J_sub (A := [some (.ref 20), some (.int c1), none, some (.int v2)]) ⟨rfl, ⟨rfl, ⟨rfl, trivial⟩⟩⟩ (hj1 (1 <<< (v2 &&& 31)) M3)

def x_errandsOf (p1 : Int32) (M : PM) : Option (Int32 × PM) :=
    x_errandsOf_L4 p1 FU 0 0 M

set_option maxHeartbeats 4000000 in
theorem t_x_errandsOf (G : JG) (p1 : Int32) (M : PM) : T_x_errandsOf G  M 0 (ent [.ref 20, .int p1] 4) [] (x_errandsOf p1 M) := by
  unfold x_errandsOf
  refine J_iconst (pc := 0) 0 dX1_errandsOf_0 (by decide) ?_
  refine J_istore_n (pc := 1) dX1_errandsOf_1 (by decide) ?_
  refine J_iconst (pc := 2) 0 dX1_errandsOf_2 (by decide) ?_
  refine J_istore_n (pc := 3) dX1_errandsOf_3 (by decide) ?_
  refine J_sub (A := [some (.ref 20), some (.int p1), some (.int 0), some (.int 0)]) ⟨rfl, ⟨rfl, ⟨rfl, ⟨rfl, trivial⟩⟩⟩⟩ (t_x_errandsOf_L4 G p1  FU 0 0 M)

theorem C_x_errandsOf (l : Launch) (p1 : Int32) (M : PM) : Ctr l Sh yX1_errandsOf cX1_errandsOf 4 (some .int) 2 rvI [.ref 20, .int p1] M (x_errandsOf p1 M) := Ctr.of (by decide +kernel) (Nat.le_of_ble_eq_true rfl) (fun G => t_x_errandsOf G p1 M)

abbrev T_x_wordFor (G : JG) (M : PM) (pc : Nat) (L : List (Option Value)) (S : List Value) (o : Option (Int32 × PM)) : Prop := JJ G cX1_wordFor yX1_wordFor 3 144 (some .int) Sh (finR G Sh rvI) M pc L S o
def x_wordFor_L2 (c1 : Int32) (k40 : Int32 → PM → Option (Int32 × PM)) : Nat → Int32 → PM → Option (Int32 × PM)
  | 0, _, _ => none
  | n + 1, v1, M1 =>
    if (M1.i 20 13) ≤ v1 then (some ((-1), M1))
    else (bd (x_errandsOf c1 M1) fun v2 M2 =>
    bd (x_has v2 v1 M2) fun v3 M3 =>
    jn (fun (M4 : PM) =>
    lt (v1 + 1) fun v4 =>
    x_wordFor_L2 c1 k40 n v4 M4) fun j1 =>
    if v3 = 0 then (j1 M3)
    else (ck v1 8 <|
    ck c1 4 <|
    if (M3.i 37 (ix v1)) = (M3.i 22 (ix c1)) then (k40 v1 M3)
    else (j1 M3)))

set_option maxHeartbeats 4000000 in
theorem t_x_wordFor_L2 (G : JG) (c1 : Int32) (k40 : Int32 → PM → Option (Int32 × PM)) (hk40 : ∀ z2 Me, T_x_wordFor G  Me 40 [some (.ref 20), some (.int c1), some (.int z2)] [] (k40 z2 Me)) : ∀ (n : Nat) (v1 : Int32) (M1 : PM), T_x_wordFor G  M1 2 [some (.ref 20), some (.int c1), some (.int v1)] [] (x_wordFor_L2 c1 k40 n v1 M1) := by
  intro n
  induction n with
  | zero =>
    intro v1 M1
    exact J_none
  | succ n ih =>
    intro v1 M1
    rw [x_wordFor_L2]
    refine J_iload_n (pc := 2) dX1_wordFor_2 rfl ?_
    refine J_aload_n (pc := 3) dX1_wordFor_3 rfl ?_
    refine J_get (pc := 4) (c := 0) (.int (M1.i 20 13)) rfl in_X1 13 (by decide) q190 rfl (fun h => sh_k1 h 0 rfl) (fun _ _ => rfl) dX1_wordFor_4 ?_
    refine J_icmp_ge (pc := 7) 67 dX1_wordFor_7 rfl (fun h => if_pos h) (fun h => if_neg h) (fun _ => ?_) (fun _ => ?_)
    · refine J_iconst (pc := 67) (-1) dX1_wordFor_67 (by decide) ?_
      exact J_iret (pc := 68) dX1_wordFor_68
    · refine J_aload_n (pc := 10) dX1_wordFor_10 rfl ?_
      refine J_iload_n (pc := 11) dX1_wordFor_11 rfl ?_
      refine J_callV (pc := 12) (n := 1) (b := 20) (vs := [.int c1]) (ci := 0) (fun l => C_x_errandsOf l c1 M1) (lw_V q791 q793 qs32 q116 q794) nmv_X1_errandsOf rfl (by omega) (by decide) rfl (fun h => sh_k1 h 0 rfl) rfl (Nat.le_of_ble_eq_true rfl) dX1_wordFor_12 (fun v2 M2 => ?_)
      refine J_iload_n (pc := 15) dX1_wordFor_15 rfl ?_
      refine J_callS (pc := 16) (n := 2) (vs := [.int v2, .int v1]) (fun l => C_x_has l v2 v1 M2) (lw_S q757 q758 q116 q759) nmh_X1_has rfl (by omega) (by decide) rfl (Nat.le_of_ble_eq_true rfl) dX1_wordFor_16 (fun v3 M3 => ?_)
      refine J_jn (P := fun J => ∀ (M4 : PM), T_x_wordFor G  M4 61 [some (.ref 20), some (.int c1), some (.int v1)] [] (J M4)) (fun M4 => ?_) (fun j1 hj1 => ?_)
      · refine J_iincL (pc := 61) (n := 1) (by decide) dX1_wordFor_61 rfl (by decide) (fun v4 => ?_)
        refine J_goto (pc := 64) 2 dX1_wordFor_64 rfl ?_
        exact J_sub (A := [some (.ref 20), some (.int c1), some (.int v4)]) ⟨rfl, ⟨rfl, ⟨rfl, trivial⟩⟩⟩ (ih v4 M4)
      refine J_if_eq (pc := 19) 61 dX1_wordFor_19 rfl (fun h => if_pos h) (fun h => if_neg h) (fun _ => ?_) (fun _ => ?_)
      · exact J_sub (A := [some (.ref 20), some (.int c1), some (.int v1)]) ⟨rfl, ⟨rfl, ⟨rfl, trivial⟩⟩⟩ (hj1 M3)
      · refine J_aload_n (pc := 22) dX1_wordFor_22 rfl ?_
        refine J_get (pc := 23) (c := 0) (.ref 37) rfl in_X1 8 (by decide) q185 rfl (fun h => sh_k1 h 0 rfl) (fun h _ => fv_ref (Or.inr ⟨_, rfl⟩) (sh_r h 16 rfl)) dX1_wordFor_23 ?_
        refine J_iload_n (pc := 26) dX1_wordFor_26 rfl ?_
        refine J_ck (fun h1 => ?_)
        refine J_iald (pc := 27) (a := 37) (fun h => sh_a h 17 rfl h1) dX1_wordFor_27 ?_
        refine J_aload_n (pc := 28) dX1_wordFor_28 rfl ?_
        refine J_get (pc := 29) (c := 0) (.ref 21) rfl in_X1 0 (by decide) q177 rfl (fun h => sh_k1 h 0 rfl) (fun h _ => fv_ref (Or.inl ⟨_, rfl⟩) (sh_r h 4 rfl)) dX1_wordFor_29 ?_
        refine J_getN (host := "TollOnVowels") (pc := 32) (c := 1) (.ref 22) rfl in_X2 0 (by decide) (by decide +kernel) rfl (fun h => sh_k1 h 1 rfl) (fun h _ => fv_ref (Or.inr ⟨_, rfl⟩) (sh_r h 0 rfl)) dX1_wordFor_32 ?_
        refine J_iload_n (pc := 35) dX1_wordFor_35 rfl ?_
        refine J_ck (fun h2 => ?_)
        refine J_iald (pc := 36) (a := 22) (fun h => sh_a h 2 rfl h2) dX1_wordFor_36 ?_
        refine J_icmp_ne (pc := 37) 61 dX1_wordFor_37 rfl (fun h => if_neg h) (fun h => if_pos h) (fun _ => ?_) (fun _ => ?_)
        · exact J_sub (A := [some (.ref 20), some (.int c1), some (.int v1)]) ⟨rfl, ⟨rfl, ⟨rfl, trivial⟩⟩⟩ (hj1 M3)
        · exact J_sub (A := [some (.ref 20), some (.int c1), some (.int v1)]) ⟨rfl, ⟨rfl, ⟨rfl, trivial⟩⟩⟩ (hk40 v1 M3)

def x_wordFor (p1 : Int32) (M : PM) : Option (Int32 × PM) :=
    x_wordFor_L2 p1 (fun (v5 : Int32) (M5 : PM) =>
    ck v5 8 <|
    ck p1 4 <|
    bd (x_cheapestFor (M5.i 36 (ix v5)) (M5.i 22 (ix p1)) 0 M5) fun v6 M6 =>
    some (v6, M6)) FU 0 M

set_option maxHeartbeats 4000000 in
theorem t_x_wordFor (G : JG) (p1 : Int32) (M : PM) : T_x_wordFor G  M 0 (ent [.ref 20, .int p1] 3) [] (x_wordFor p1 M) := by
  unfold x_wordFor
  refine J_iconst (pc := 0) 0 dX1_wordFor_0 (by decide) ?_
  refine J_istore_n (pc := 1) dX1_wordFor_1 (by decide) ?_
  refine J_sub (A := [some (.ref 20), some (.int p1), some (.int 0)]) ⟨rfl, ⟨rfl, ⟨rfl, trivial⟩⟩⟩ (t_x_wordFor_L2 G p1 _ ?_ FU 0 M)
  · intro v5 M5
    refine J_aload_n (pc := 40) dX1_wordFor_40 rfl ?_
    refine J_aload_n (pc := 41) dX1_wordFor_41 rfl ?_
    refine J_get (pc := 42) (c := 0) (.ref 36) rfl in_X1 7 (by decide) q184 rfl (fun h => sh_k1 h 0 rfl) (fun h _ => fv_ref (Or.inr ⟨_, rfl⟩) (sh_r h 15 rfl)) dX1_wordFor_42 ?_
    refine J_iload_n (pc := 45) dX1_wordFor_45 rfl ?_
    refine J_ck (fun h3 => ?_)
    refine J_iald (pc := 46) (a := 36) (fun h => sh_a h 16 rfl h3) dX1_wordFor_46 ?_
    refine J_aload_n (pc := 47) dX1_wordFor_47 rfl ?_
    refine J_get (pc := 48) (c := 0) (.ref 21) rfl in_X1 0 (by decide) q177 rfl (fun h => sh_k1 h 0 rfl) (fun h _ => fv_ref (Or.inl ⟨_, rfl⟩) (sh_r h 4 rfl)) dX1_wordFor_48 ?_
    refine J_getN (host := "TollOnVowels") (pc := 51) (c := 1) (.ref 22) rfl in_X2 0 (by decide) (by decide +kernel) rfl (fun h => sh_k1 h 1 rfl) (fun h _ => fv_ref (Or.inr ⟨_, rfl⟩) (sh_r h 0 rfl)) dX1_wordFor_51 ?_
    refine J_iload_n (pc := 54) dX1_wordFor_54 rfl ?_
    refine J_ck (fun h4 => ?_)
    refine J_iald (pc := 55) (a := 22) (fun h => sh_a h 2 rfl h4) dX1_wordFor_55 ?_
    refine J_iconst (pc := 56) 0 dX1_wordFor_56 (by decide) ?_
    refine J_callV (pc := 57) (n := 3) (b := 20) (vs := [.int (M5.i 36 (ix v5)), .int (M5.i 22 (ix p1)), .int 0]) (ci := 0) (fun l => C_x_cheapestFor l (M5.i 36 (ix v5)) (M5.i 22 (ix p1)) 0 M5) (lw_V q795 q797 qs33 q116 q798) nmv_X1_cheapestFor rfl (by omega) (by decide) rfl (fun h => sh_k1 h 0 rfl) rfl (Nat.le_of_ble_eq_true rfl) dX1_wordFor_57 (fun v6 M6 => ?_)
    exact J_iret (pc := 60) dX1_wordFor_60

theorem C_x_wordFor (l : Launch) (p1 : Int32) (M : PM) : Ctr l Sh yX1_wordFor cX1_wordFor 3 (some .int) 144 rvI [.ref 20, .int p1] M (x_wordFor p1 M) := Ctr.of (by decide +kernel) (Nat.le_of_ble_eq_true rfl) (fun G => t_x_wordFor G p1 M)

abbrev T_x_does (G : JG) (M : PM) (pc : Nat) (L : List (Option Value)) (S : List Value) (o : Option (Int32 × PM)) : Prop := JJ G cX1_does yX1_does 4 145 (some .boolean) Sh (finR G Sh rvI) M pc L S o
def x_does (p1 : Int32) (M : PM) : Option (Int32 × PM) :=
    ck p1 40 <|
    lt (M.i 58 (ix p1)) fun v1 =>
    ck p1 40 <|
    if (M.i 57 (ix p1)) = 33 then (bd (x_isTraveller v1 M) fun v2 M1 =>
    jn (fun (v3 : Int32) (M2 : PM) =>
    if v3 < 0 then (some (0, M2))
    else (bd (x_says 21 v1 v3 M2) fun v4 M3 =>
    bd (x_paid v4 M3) fun v5 M4 =>
    if v5 = 0 then (some (0, M4))
    else (some (1, M4)))) fun j1 =>
    if v2 = 0 then (j1 (-1) M1)
    else (bd (x_wordFor v1 M1) fun v6 M5 =>
    j1 v6 M5))
    else if (M.i 57 (ix p1)) = 60 then (bd (x_walks 21 v1 0 M) fun v7 M6 =>
    if v7 < 0 then (some (0, M6))
    else (some (1, M6)))
    else if (M.i 57 (ix p1)) = 62 then (bd (x_walks 21 v1 1 M) fun v8 M7 =>
    if v8 < 0 then (some (0, M7))
    else (some (1, M7)))
    else if (M.i 57 (ix p1)) = 119 then (lt (M.si 21 4 ((M.i 21 4) + v1)) fun M8 =>
    some (1, M8))
    else (ck p1 40 <|
    bd (x_says 21 v1 ((M.i 57 (ix p1)) - 48) M) fun v9 M9 =>
    bd (x_paid v9 M9) fun v10 M10 =>
    ckb (v10 = 0 ∨ v10 = 1) <|
    some (v10, M10))

set_option maxHeartbeats 4000000 in
theorem t_x_does (G : JG) (p1 : Int32) (M : PM) : T_x_does G  M 0 (ent [.ref 20, .int p1] 4) [] (x_does p1 M) := by
  unfold x_does
  refine J_aload_n (pc := 0) dX1_does_0 rfl ?_
  refine J_get (pc := 1) (c := 0) (.ref 58) rfl in_X1 46 (by decide) q230 rfl (fun h => sh_k1 h 0 rfl) (fun h _ => fv_ref (Or.inr ⟨_, rfl⟩) (sh_r h 37 rfl)) dX1_does_1 ?_
  refine J_iload_n (pc := 4) dX1_does_4 rfl ?_
  refine J_ck (fun h1 => ?_)
  refine J_iald (pc := 5) (a := 58) (fun h => sh_a h 38 rfl h1) dX1_does_5 ?_
  refine J_lt (β := Int32) (v := (M.i 58 (ix p1))) (L := fun _ => _) (S := fun v1 => [.int v1]) (fun v1 => ?_)
  refine J_istore_n (pc := 6) dX1_does_6 (by decide) ?_
  refine J_aload_n (pc := 7) dX1_does_7 rfl ?_
  refine J_get (pc := 8) (c := 0) (.ref 57) rfl in_X1 45 (by decide) q229 rfl (fun h => sh_k1 h 0 rfl) (fun h _ => fv_ref (Or.inr ⟨_, rfl⟩) (sh_r h 36 rfl)) dX1_does_8 ?_
  refine J_iload_n (pc := 11) dX1_does_11 rfl ?_
  refine J_ck (fun h2 => ?_)
  refine J_iald (pc := 12) (a := 57) (fun h => sh_a h 37 rfl h2) dX1_does_12 ?_
  refine J_ite (fun h_13_33 => ?_) (fun h_13_33 => ?_)
  · refine J_lookup (pc := 13) 109 dX1_does_13 rfl (by rw [h_13_33] <;> rfl) rfl ?_
    refine J_aload_n (pc := 109) dX1_does_109 rfl ?_
    refine J_iload_n (pc := 110) dX1_does_110 rfl ?_
    refine J_callV (pc := 111) (n := 1) (b := 20) (vs := [.int v1]) (ci := 0) (fun l => C_x_isTraveller l v1 M) (lw_V q720 q722 qs22 q116 q723) nmv_X1_isTraveller rfl (by omega) (by decide) rfl (fun h => sh_k1 h 0 rfl) rfl (Nat.le_of_ble_eq_true rfl) dX1_does_111 (fun v2 M1 => ?_)
    refine J_jn (P := fun J => ∀ (v3 : Int32) (M2 : PM), T_x_does G  M2 126 [some (.ref 20), none, some (.int v1), none] [.int v3] (J v3 M2)) (fun v3 M2 => ?_) (fun j1 hj1 => ?_)
    · refine J_istore_n (pc := 126) dX1_does_126 (by decide) ?_
      refine J_iload_n (pc := 127) dX1_does_127 rfl ?_
      refine J_if_lt (pc := 128) 152 dX1_does_128 rfl (fun h => if_pos h) (fun h => if_neg h) (fun _ => ?_) (fun _ => ?_)
      · refine J_iconst (pc := 152) 0 dX1_does_152 (by decide) ?_
        exact J_zret (pc := 153) rfl dX1_does_153
      · refine J_aload_n (pc := 131) dX1_does_131 rfl ?_
        refine J_aload_n (pc := 132) dX1_does_132 rfl ?_
        refine J_aload_n (pc := 133) dX1_does_133 rfl ?_
        refine J_get (pc := 134) (c := 0) (.ref 21) rfl in_X1 0 (by decide) q177 rfl (fun h => sh_k1 h 0 rfl) (fun h _ => fv_ref (Or.inl ⟨_, rfl⟩) (sh_r h 4 rfl)) dX1_does_134 ?_
        refine J_iload_n (pc := 137) dX1_does_137 rfl ?_
        refine J_iload_n (pc := 138) dX1_does_138 rfl ?_
        refine J_callV (pc := 139) (n := 3) (b := 20) (vs := [.ref 21, .int v1, .int v3]) (ci := 0) (fun l => C_x_says l 21 v1 v3 M2) (lw_V q741 q743 qs25 q116 q744) nmv_X1_says rfl (by omega) (by decide) rfl (fun h => sh_k1 h 0 rfl) rfl (Nat.le_of_ble_eq_true rfl) dX1_does_139 (fun v4 M3 => ?_)
        refine J_callV (pc := 142) (n := 1) (b := 20) (vs := [.int v4]) (ci := 0) (fun l => C_x_paid l v4 M3) (lw_V q808 q810 qs36 q116 q811) nmv_X1_paid rfl (by omega) (by decide) rfl (fun h => sh_k1 h 0 rfl) rfl (Nat.le_of_ble_eq_true rfl) dX1_does_142 (fun v5 M4 => ?_)
        refine J_if_eq (pc := 145) 152 dX1_does_145 rfl (fun h => if_pos h) (fun h => if_neg h) (fun _ => ?_) (fun _ => ?_)
        · refine J_iconst (pc := 152) 0 dX1_does_152 (by decide) ?_
          exact J_zret (pc := 153) rfl dX1_does_153
        · refine J_iconst (pc := 148) 1 dX1_does_148 (by decide) ?_
          refine J_goto (pc := 149) 153 dX1_does_149 rfl ?_
          exact J_zret (pc := 153) rfl dX1_does_153
    refine J_if_eq (pc := 114) 125 dX1_does_114 rfl (fun h => if_pos h) (fun h => if_neg h) (fun _ => ?_) (fun _ => ?_)
    · refine J_iconst (pc := 125) (-1) dX1_does_125 (by decide) ?_
      exact J_sub (A := [some (.ref 20), none, some (.int v1), none]) ⟨rfl, ⟨rfl, trivial⟩⟩ (hj1 (-1) M1)
    · refine J_aload_n (pc := 117) dX1_does_117 rfl ?_
      refine J_iload_n (pc := 118) dX1_does_118 rfl ?_
      refine J_callV (pc := 119) (n := 1) (b := 20) (vs := [.int v1]) (ci := 0) (fun l => C_x_wordFor l v1 M1) (lw_V q787 q789 qs31 q116 q790) nmv_X1_wordFor rfl (by omega) (by decide) rfl (fun h => sh_k1 h 0 rfl) rfl (Nat.le_of_ble_eq_true rfl) dX1_does_119 (fun v6 M5 => ?_)
      refine J_goto (pc := 122) 126 dX1_does_122 rfl ?_
      exact J_sub (A := [some (.ref 20), none, some (.int v1), none]) ⟨rfl, ⟨rfl, trivial⟩⟩ (hj1 v6 M5)
  · refine J_ite (fun h_13_60 => ?_) (fun h_13_60 => ?_)
    · refine J_lookup (pc := 13) 90 dX1_does_13 rfl (by rw [h_13_60] <;> rfl) rfl ?_
      refine J_aload_n (pc := 90) dX1_does_90 rfl ?_
      refine J_aload_n (pc := 91) dX1_does_91 rfl ?_
      refine J_get (pc := 92) (c := 0) (.ref 21) rfl in_X1 0 (by decide) q177 rfl (fun h => sh_k1 h 0 rfl) (fun h _ => fv_ref (Or.inl ⟨_, rfl⟩) (sh_r h 4 rfl)) dX1_does_92 ?_
      refine J_iload_n (pc := 95) dX1_does_95 rfl ?_
      refine J_iconst (pc := 96) 0 dX1_does_96 (by decide) ?_
      refine J_callV (pc := 97) (n := 3) (b := 20) (vs := [.ref 21, .int v1, .int 0]) (ci := 0) (fun l => C_x_walks l 21 v1 0 M) (lw_V q716 q718 qs21 q116 q719) nmv_X1_walks rfl (by omega) (by decide) rfl (fun h => sh_k1 h 0 rfl) rfl (Nat.le_of_ble_eq_true rfl) dX1_does_97 (fun v7 M6 => ?_)
      refine J_if_lt (pc := 100) 107 dX1_does_100 rfl (fun h => if_pos h) (fun h => if_neg h) (fun _ => ?_) (fun _ => ?_)
      · refine J_iconst (pc := 107) 0 dX1_does_107 (by decide) ?_
        exact J_zret (pc := 108) rfl dX1_does_108
      · refine J_iconst (pc := 103) 1 dX1_does_103 (by decide) ?_
        refine J_goto (pc := 104) 108 dX1_does_104 rfl ?_
        exact J_zret (pc := 108) rfl dX1_does_108
    · refine J_ite (fun h_13_62 => ?_) (fun h_13_62 => ?_)
      · refine J_lookup (pc := 13) 71 dX1_does_13 rfl (by rw [h_13_62] <;> rfl) rfl ?_
        refine J_aload_n (pc := 71) dX1_does_71 rfl ?_
        refine J_aload_n (pc := 72) dX1_does_72 rfl ?_
        refine J_get (pc := 73) (c := 0) (.ref 21) rfl in_X1 0 (by decide) q177 rfl (fun h => sh_k1 h 0 rfl) (fun h _ => fv_ref (Or.inl ⟨_, rfl⟩) (sh_r h 4 rfl)) dX1_does_73 ?_
        refine J_iload_n (pc := 76) dX1_does_76 rfl ?_
        refine J_iconst (pc := 77) 1 dX1_does_77 (by decide) ?_
        refine J_callV (pc := 78) (n := 3) (b := 20) (vs := [.ref 21, .int v1, .int 1]) (ci := 0) (fun l => C_x_walks l 21 v1 1 M) (lw_V q716 q718 qs21 q116 q719) nmv_X1_walks rfl (by omega) (by decide) rfl (fun h => sh_k1 h 0 rfl) rfl (Nat.le_of_ble_eq_true rfl) dX1_does_78 (fun v8 M7 => ?_)
        refine J_if_lt (pc := 81) 88 dX1_does_81 rfl (fun h => if_pos h) (fun h => if_neg h) (fun _ => ?_) (fun _ => ?_)
        · refine J_iconst (pc := 88) 0 dX1_does_88 (by decide) ?_
          exact J_zret (pc := 89) rfl dX1_does_89
        · refine J_iconst (pc := 84) 1 dX1_does_84 (by decide) ?_
          refine J_goto (pc := 85) 89 dX1_does_85 rfl ?_
          exact J_zret (pc := 89) rfl dX1_does_89
      · refine J_ite (fun h_13_119 => ?_) (fun h_13_119 => ?_)
        · refine J_lookup (pc := 13) 56 dX1_does_13 rfl (by rw [h_13_119] <;> rfl) rfl ?_
          refine J_aload_n (pc := 56) dX1_does_56 rfl ?_
          refine J_get (pc := 57) (c := 0) (.ref 21) rfl in_X1 0 (by decide) q177 rfl (fun h => sh_k1 h 0 rfl) (fun h _ => fv_ref (Or.inl ⟨_, rfl⟩) (sh_r h 4 rfl)) dX1_does_57 ?_
          refine J_dup (pc := 60) dX1_does_60 rfl ?_
          refine J_getN (host := "TollOnVowels") (pc := 61) (c := 1) (.int (M.i 21 4)) rfl in_X2 4 (by decide) (by decide +kernel) rfl (fun h => sh_k1 h 1 rfl) (fun _ _ => rfl) dX1_does_61 ?_
          refine J_iload_n (pc := 64) dX1_does_64 rfl ?_
          refine J_iadd (pc := 65) dX1_does_65 ?_
          refine J_putN (host := "TollOnVowels") (pc := 66) (a := 21) (v := .int ((M.i 21 4) + v1)) (M' := M.si 21 4 ((M.i 21 4) + v1)) (c := 1) rfl in_X2 tyX2_ok fnX2 4 (by decide) (by decide +kernel) rfl rfl (fun h => sh_k1 h 1 rfl) (fun _ => rfl) (fun _ => rfl) ⟨⟨rfl, rfl⟩, rfl⟩ (fun _ hb => up2_same hb) (fun _ _ => rfl) (fun _ _ => rfl) (put_i (fun _ _ _ => rfl)) (fun h => Sh_si h) dX1_does_66 ?_
          refine J_ltM (fun M8 => ?_)
          refine J_iconst (pc := 69) 1 dX1_does_69 (by decide) ?_
          exact J_zret (pc := 70) rfl dX1_does_70
        · refine J_lookup (pc := 13) 154 dX1_does_13 rfl (lk_out (by simp only [List.map_cons, List.map_nil, List.mem_cons, List.not_mem_nil, or_false, forall_eq_or_imp, forall_eq]; exact ⟨fun q => h_13_33 (i32_of q), fun q => h_13_60 (i32_of q), fun q => h_13_62 (i32_of q), fun q => h_13_119 (i32_of q)⟩)) rfl ?_
          refine J_aload_n (pc := 154) dX1_does_154 rfl ?_
          refine J_aload_n (pc := 155) dX1_does_155 rfl ?_
          refine J_aload_n (pc := 156) dX1_does_156 rfl ?_
          refine J_get (pc := 157) (c := 0) (.ref 21) rfl in_X1 0 (by decide) q177 rfl (fun h => sh_k1 h 0 rfl) (fun h _ => fv_ref (Or.inl ⟨_, rfl⟩) (sh_r h 4 rfl)) dX1_does_157 ?_
          refine J_iload_n (pc := 160) dX1_does_160 rfl ?_
          refine J_aload_n (pc := 161) dX1_does_161 rfl ?_
          refine J_get (pc := 162) (c := 0) (.ref 57) rfl in_X1 45 (by decide) q229 rfl (fun h => sh_k1 h 0 rfl) (fun h _ => fv_ref (Or.inr ⟨_, rfl⟩) (sh_r h 36 rfl)) dX1_does_162 ?_
          refine J_iload_n (pc := 165) dX1_does_165 rfl ?_
          refine J_ck (fun h3 => ?_)
          refine J_iald (pc := 166) (a := 57) (fun h => sh_a h 37 rfl h3) dX1_does_166 ?_
          refine J_bipush (pc := 167) 48 dX1_does_167 (by decide) ?_
          refine J_isub (pc := 169) dX1_does_169 ?_
          refine J_callV (pc := 170) (n := 3) (b := 20) (vs := [.ref 21, .int v1, .int ((M.i 57 (ix p1)) - 48)]) (ci := 0) (fun l => C_x_says l 21 v1 ((M.i 57 (ix p1)) - 48) M) (lw_V q741 q743 qs25 q116 q744) nmv_X1_says rfl (by omega) (by decide) rfl (fun h => sh_k1 h 0 rfl) rfl (Nat.le_of_ble_eq_true rfl) dX1_does_170 (fun v9 M9 => ?_)
          refine J_callV (pc := 173) (n := 1) (b := 20) (vs := [.int v9]) (ci := 0) (fun l => C_x_paid l v9 M9) (lw_V q808 q810 qs36 q116 q811) nmv_X1_paid rfl (by omega) (by decide) rfl (fun h => sh_k1 h 0 rfl) rfl (Nat.le_of_ble_eq_true rfl) dX1_does_173 (fun v10 M10 => ?_)
          refine J_ckb (fun h4 => ?_)
          exact J_zret (pc := 176) (nz h4) dX1_does_176

theorem C_x_does (l : Launch) (p1 : Int32) (M : PM) : Ctr l Sh yX1_does cX1_does 4 (some .boolean) 145 rvI [.ref 20, .int p1] M (x_does p1 M) := Ctr.of (by decide +kernel) (Nat.le_of_ble_eq_true rfl) (fun G => t_x_does G p1 M)

abbrev T_x_readsAct (G : JG) (M : PM) (pc : Nat) (L : List (Option Value)) (S : List Value) (o : Option (Int32 × PM)) : Prop := JJ G cX1_readsAct yX1_readsAct 2 8 (some .boolean) Sh (finR G Sh rvI) M pc L S o
def x_readsAct (M : PM) : Option (Int32 × PM) :=
    lt (M.i 20 47) fun v1 =>
    lt (M.si 20 47 ((M.i 20 47) + 1)) fun M1 =>
    bd (x_eats 119 M1) fun v2 M2 =>
    if v2 = 0 then (bd (x_takesOf 8 M2) fun v3 M3 =>
    ck v1 40 <|
    lt (M3.si 58 (ix v1) v3) fun M4 =>
    ck v1 40 <|
    if (M4.i 58 (ix v1)) < 0 then (some (0, M4))
    else (bd (x_among 9 M4) fun v4 M5 =>
    if 0 ≤ v4 then (ck (M5.i 20 17) 80 <|
    ck v1 40 <|
    lt (M5.si 57 (ix v1) (M5.i 39 (ix (M5.i 20 17)))) fun M6 =>
    lt (M6.si 20 17 ((M6.i 20 17) + 1)) fun M7 =>
    some (1, M7))
    else (some (0, M5))))
    else (ck v1 40 <|
    lt (M2.si 57 (ix v1) 119) fun M8 =>
    bd (x_number 2 M8) fun v5 M9 =>
    ck v1 40 <|
    lt (M9.si 58 (ix v1) v5) fun M10 =>
    ck v1 40 <|
    if (M10.i 58 (ix v1)) < 0 then (some (0, M10))
    else (some (1, M10)))

set_option maxHeartbeats 4000000 in
theorem t_x_readsAct (G : JG) (M : PM) : T_x_readsAct G  M 0 (ent [.ref 20] 2) [] (x_readsAct M) := by
  unfold x_readsAct
  refine J_aload_n (pc := 0) dX1_readsAct_0 rfl ?_
  refine J_get (pc := 1) (c := 0) (.int (M.i 20 47)) rfl in_X1 47 (by decide) q231 rfl (fun h => sh_k1 h 0 rfl) (fun _ _ => rfl) dX1_readsAct_1 ?_
  refine J_lt (β := Int32) (v := (M.i 20 47)) (L := fun _ => _) (S := fun v1 => [.int v1]) (fun v1 => ?_)
  refine J_istore_n (pc := 4) dX1_readsAct_4 (by decide) ?_
  refine J_aload_n (pc := 5) dX1_readsAct_5 rfl ?_
  refine J_dup (pc := 6) dX1_readsAct_6 rfl ?_
  refine J_get (pc := 7) (c := 0) (.int (M.i 20 47)) rfl in_X1 47 (by decide) q231 rfl (fun h => sh_k1 h 0 rfl) (fun _ _ => rfl) dX1_readsAct_7 ?_
  refine J_iconst (pc := 10) 1 dX1_readsAct_10 (by decide) ?_
  refine J_iadd (pc := 11) dX1_readsAct_11 ?_
  refine J_put (pc := 12) (a := 20) (v := .int ((M.i 20 47) + 1)) (M' := M.si 20 47 ((M.i 20 47) + 1)) (c := 0) rfl in_X1 tyX1_ok fnX1 47 (by decide) q231 rfl (Or.inl rfl) (fun h => sh_k1 h 0 rfl) (fun _ => rfl) (fun _ => rfl) ⟨⟨rfl, rfl⟩, rfl⟩ (fun _ hb => up2_same hb) (fun _ _ => rfl) (fun _ _ => rfl) (put_i (fun _ _ _ => rfl)) (fun h => Sh_si h) dX1_readsAct_12 ?_
  refine J_ltM (fun M1 => ?_)
  refine J_aload_n (pc := 15) dX1_readsAct_15 rfl ?_
  refine J_bipush (pc := 16) 119 dX1_readsAct_16 (by decide) ?_
  refine J_callV (pc := 18) (n := 1) (b := 20) (vs := [.int 119]) (ci := 0) (fun l => C_x_eats l 119 M1) (lw_V q510 q512 qs4 q116 q513) nmv_X1_eats rfl (by omega) (by decide) rfl (fun h => sh_k1 h 0 rfl) rfl (Nat.le_of_ble_eq_true rfl) dX1_readsAct_18 (fun v2 M2 => ?_)
  refine J_if_eq (pc := 21) 58 dX1_readsAct_21 rfl (fun h => if_pos h) (fun h => if_neg h) (fun _ => ?_) (fun _ => ?_)
  · refine J_aload_n (pc := 58) dX1_readsAct_58 rfl ?_
    refine J_get (pc := 59) (c := 0) (.ref 58) rfl in_X1 46 (by decide) q230 rfl (fun h => sh_k1 h 0 rfl) (fun h _ => fv_ref (Or.inr ⟨_, rfl⟩) (sh_r h 37 rfl)) dX1_readsAct_59 ?_
    refine J_iload_n (pc := 62) dX1_readsAct_62 rfl ?_
    refine J_aload_n (pc := 63) dX1_readsAct_63 rfl ?_
    refine J_ldcwS (pc := 64) (i := 7) rfl rfl dX1_readsAct_64 ?_
    refine J_callV (pc := 67) (n := 1) (b := 20) (vs := [.ref 8]) (ci := 0) (fun l => C_x_takesOf l 8 M2) (lw_V q417 q419 qs2 q116 q420) nmv_X1_takesOf rfl (by omega) (by decide) rfl (fun h => sh_k1 h 0 rfl) rfl (Nat.le_of_ble_eq_true rfl) dX1_readsAct_67 (fun v3 M3 => ?_)
    refine J_ck (fun h1 => ?_)
    refine J_iast (pc := 70) (a := 58) (fun h => sh_a h 38 rfl h1) (fun h => Sh_si h) dX1_readsAct_70 ?_
    refine J_ltM (fun M4 => ?_)
    refine J_aload_n (pc := 71) dX1_readsAct_71 rfl ?_
    refine J_get (pc := 72) (c := 0) (.ref 58) rfl in_X1 46 (by decide) q230 rfl (fun h => sh_k1 h 0 rfl) (fun h _ => fv_ref (Or.inr ⟨_, rfl⟩) (sh_r h 37 rfl)) dX1_readsAct_72 ?_
    refine J_iload_n (pc := 75) dX1_readsAct_75 rfl ?_
    refine J_ck (fun h2 => ?_)
    refine J_iald (pc := 76) (a := 58) (fun h => sh_a h 38 rfl h2) dX1_readsAct_76 ?_
    refine J_if_lt (pc := 77) 90 dX1_readsAct_77 rfl (fun h => if_pos h) (fun h => if_neg h) (fun _ => ?_) (fun _ => ?_)
    · refine J_iconst (pc := 90) 0 dX1_readsAct_90 (by decide) ?_
      exact J_zret (pc := 91) rfl dX1_readsAct_91
    · refine J_aload_n (pc := 80) dX1_readsAct_80 rfl ?_
      refine J_ldcwS (pc := 81) (i := 8) rfl rfl dX1_readsAct_81 ?_
      refine J_callV (pc := 84) (n := 1) (b := 20) (vs := [.ref 9]) (ci := 0) (fun l => C_x_among l 9 M4) (lw_V q421 q423 qs3 q116 q424) nmv_X1_among rfl (by omega) (by decide) rfl (fun h => sh_k1 h 0 rfl) rfl (Nat.le_of_ble_eq_true rfl) dX1_readsAct_84 (fun v4 M5 => ?_)
      refine J_if_ge (pc := 87) 92 dX1_readsAct_87 rfl (fun h => if_pos h) (fun h => if_neg h) (fun _ => ?_) (fun _ => ?_)
      · refine J_aload_n (pc := 92) dX1_readsAct_92 rfl ?_
        refine J_get (pc := 93) (c := 0) (.ref 57) rfl in_X1 45 (by decide) q229 rfl (fun h => sh_k1 h 0 rfl) (fun h _ => fv_ref (Or.inr ⟨_, rfl⟩) (sh_r h 36 rfl)) dX1_readsAct_93 ?_
        refine J_iload_n (pc := 96) dX1_readsAct_96 rfl ?_
        refine J_aload_n (pc := 97) dX1_readsAct_97 rfl ?_
        refine J_get (pc := 98) (c := 0) (.ref 39) rfl in_X1 15 (by decide) q192 rfl (fun h => sh_k1 h 0 rfl) (fun h _ => fv_ref (Or.inr ⟨_, rfl⟩) (sh_r h 18 rfl)) dX1_readsAct_98 ?_
        refine J_aload_n (pc := 101) dX1_readsAct_101 rfl ?_
        refine J_get (pc := 102) (c := 0) (.int (M5.i 20 17)) rfl in_X1 17 (by decide) q194 rfl (fun h => sh_k1 h 0 rfl) (fun _ _ => rfl) dX1_readsAct_102 ?_
        refine J_ck (fun h3 => ?_)
        refine J_iald (pc := 105) (a := 39) (fun h => sh_a h 19 rfl h3) dX1_readsAct_105 ?_
        refine J_ck (fun h4 => ?_)
        refine J_iast (pc := 106) (a := 57) (fun h => sh_a h 37 rfl h4) (fun h => Sh_si h) dX1_readsAct_106 ?_
        refine J_ltM (fun M6 => ?_)
        refine J_aload_n (pc := 107) dX1_readsAct_107 rfl ?_
        refine J_dup (pc := 108) dX1_readsAct_108 rfl ?_
        refine J_get (pc := 109) (c := 0) (.int (M6.i 20 17)) rfl in_X1 17 (by decide) q194 rfl (fun h => sh_k1 h 0 rfl) (fun _ _ => rfl) dX1_readsAct_109 ?_
        refine J_iconst (pc := 112) 1 dX1_readsAct_112 (by decide) ?_
        refine J_iadd (pc := 113) dX1_readsAct_113 ?_
        refine J_put (pc := 114) (a := 20) (v := .int ((M6.i 20 17) + 1)) (M' := M6.si 20 17 ((M6.i 20 17) + 1)) (c := 0) rfl in_X1 tyX1_ok fnX1 17 (by decide) q194 rfl (Or.inl rfl) (fun h => sh_k1 h 0 rfl) (fun _ => rfl) (fun _ => rfl) ⟨⟨rfl, rfl⟩, rfl⟩ (fun _ hb => up2_same hb) (fun _ _ => rfl) (fun _ _ => rfl) (put_i (fun _ _ _ => rfl)) (fun h => Sh_si h) dX1_readsAct_114 ?_
        refine J_ltM (fun M7 => ?_)
        refine J_iconst (pc := 117) 1 dX1_readsAct_117 (by decide) ?_
        exact J_zret (pc := 118) rfl dX1_readsAct_118
      · refine J_iconst (pc := 90) 0 dX1_readsAct_90 (by decide) ?_
        exact J_zret (pc := 91) rfl dX1_readsAct_91
  · refine J_aload_n (pc := 24) dX1_readsAct_24 rfl ?_
    refine J_get (pc := 25) (c := 0) (.ref 57) rfl in_X1 45 (by decide) q229 rfl (fun h => sh_k1 h 0 rfl) (fun h _ => fv_ref (Or.inr ⟨_, rfl⟩) (sh_r h 36 rfl)) dX1_readsAct_25 ?_
    refine J_iload_n (pc := 28) dX1_readsAct_28 rfl ?_
    refine J_bipush (pc := 29) 119 dX1_readsAct_29 (by decide) ?_
    refine J_ck (fun h5 => ?_)
    refine J_iast (pc := 31) (a := 57) (fun h => sh_a h 37 rfl h5) (fun h => Sh_si h) dX1_readsAct_31 ?_
    refine J_ltM (fun M8 => ?_)
    refine J_aload_n (pc := 32) dX1_readsAct_32 rfl ?_
    refine J_get (pc := 33) (c := 0) (.ref 58) rfl in_X1 46 (by decide) q230 rfl (fun h => sh_k1 h 0 rfl) (fun h _ => fv_ref (Or.inr ⟨_, rfl⟩) (sh_r h 37 rfl)) dX1_readsAct_33 ?_
    refine J_iload_n (pc := 36) dX1_readsAct_36 rfl ?_
    refine J_aload_n (pc := 37) dX1_readsAct_37 rfl ?_
    refine J_iconst (pc := 38) 2 dX1_readsAct_38 (by decide) ?_
    refine J_callV (pc := 39) (n := 1) (b := 20) (vs := [.int 2]) (ci := 0) (fun l => C_x_number l 2 M8) (lw_V q542 q544 qs10 q116 q545) nmv_X1_number rfl (by omega) (by decide) rfl (fun h => sh_k1 h 0 rfl) rfl (Nat.le_of_ble_eq_true rfl) dX1_readsAct_39 (fun v5 M9 => ?_)
    refine J_ck (fun h6 => ?_)
    refine J_iast (pc := 42) (a := 58) (fun h => sh_a h 38 rfl h6) (fun h => Sh_si h) dX1_readsAct_42 ?_
    refine J_ltM (fun M10 => ?_)
    refine J_aload_n (pc := 43) dX1_readsAct_43 rfl ?_
    refine J_get (pc := 44) (c := 0) (.ref 58) rfl in_X1 46 (by decide) q230 rfl (fun h => sh_k1 h 0 rfl) (fun h _ => fv_ref (Or.inr ⟨_, rfl⟩) (sh_r h 37 rfl)) dX1_readsAct_44 ?_
    refine J_iload_n (pc := 47) dX1_readsAct_47 rfl ?_
    refine J_ck (fun h7 => ?_)
    refine J_iald (pc := 48) (a := 58) (fun h => sh_a h 38 rfl h7) dX1_readsAct_48 ?_
    refine J_if_lt (pc := 49) 56 dX1_readsAct_49 rfl (fun h => if_pos h) (fun h => if_neg h) (fun _ => ?_) (fun _ => ?_)
    · refine J_iconst (pc := 56) 0 dX1_readsAct_56 (by decide) ?_
      exact J_zret (pc := 57) rfl dX1_readsAct_57
    · refine J_iconst (pc := 52) 1 dX1_readsAct_52 (by decide) ?_
      refine J_goto (pc := 53) 57 dX1_readsAct_53 rfl ?_
      exact J_zret (pc := 57) rfl dX1_readsAct_57

theorem C_x_readsAct (l : Launch) (M : PM) : Ctr l Sh yX1_readsAct cX1_readsAct 2 (some .boolean) 8 rvI [.ref 20] M (x_readsAct M) := Ctr.of (by decide +kernel) (Nat.le_of_ble_eq_true rfl) (fun G => t_x_readsAct G M)

abbrev T_x_journey (G : JG) (M : PM) (pc : Nat) (L : List (Option Value)) (S : List Value) (o : Option (Int32 × PM)) : Prop := JJ G cX1_journey yX1_journey 6 146 (some .int) Sh (finR G Sh rvI) M pc L S o
def x_journey_L24 (c1 : Int32) (k55 : Int32 → PM → Option (Int32 × PM)) : Nat → Int32 → Int32 → PM → Option (Int32 × PM)
  | 0, _, _, _ => none
  | n + 1, v3, v4, M3 =>
    if v4 = 0 then (k55 v3 M3)
    else (bd (x_readsAct M3) fun v5 M4 =>
    jn (fun (v6 : Int32) (M5 : PM) =>
    x_journey_L24 c1 k55 n v5 v6 M5) fun j2 =>
    if v5 = 0 then (j2 0 M4)
    else (bd (x_eats 59 M4) fun v7 M6 =>
    if v7 = 0 then (j2 0 M6)
    else (j2 1 M6)))

set_option maxHeartbeats 4000000 in
theorem t_x_journey_L24 (G : JG) (c1 : Int32) (k55 : Int32 → PM → Option (Int32 × PM)) (hk55 : ∀ z2 Me, T_x_journey G  Me 55 [some (.ref 20), some (.int c1), some (.int z2), none, none, none] [] (k55 z2 Me)) : ∀ (n : Nat) (v3 : Int32) (v4 : Int32) (M3 : PM), T_x_journey G  M3 24 [some (.ref 20), some (.int c1), some (.int v3), some (.int v4), none, none] [] (x_journey_L24 c1 k55 n v3 v4 M3) := by
  intro n
  induction n with
  | zero =>
    intro v3 v4 M3
    exact J_none
  | succ n ih =>
    intro v3 v4 M3
    rw [x_journey_L24]
    refine J_iload_n (pc := 24) dX1_journey_24 rfl ?_
    refine J_if_eq (pc := 25) 55 dX1_journey_25 rfl (fun h => if_pos h) (fun h => if_neg h) (fun _ => ?_) (fun _ => ?_)
    · exact J_sub (A := [some (.ref 20), some (.int c1), some (.int v3), none, none, none]) ⟨rfl, ⟨rfl, ⟨rfl, trivial⟩⟩⟩ (hk55 v3 M3)
    · refine J_aload_n (pc := 28) dX1_journey_28 rfl ?_
      refine J_callV (pc := 29) (n := 0) (b := 20) (vs := []) (ci := 0) (fun l => C_x_readsAct l  M3) (lw_V q777 q779 qs29 q116 q780) nmv_X1_readsAct rfl (by omega) (by decide) rfl (fun h => sh_k1 h 0 rfl) rfl (Nat.le_of_ble_eq_true rfl) dX1_journey_29 (fun v5 M4 => ?_)
      refine J_istore_n (pc := 32) dX1_journey_32 (by decide) ?_
      refine J_iload_n (pc := 33) dX1_journey_33 rfl ?_
      refine J_jn (P := fun J => ∀ (v6 : Int32) (M5 : PM), T_x_journey G  M5 51 [some (.ref 20), some (.int c1), some (.int v5), none, none, none] [.int v6] (J v6 M5)) (fun v6 M5 => ?_) (fun j2 hj2 => ?_)
      · refine J_istore_n (pc := 51) dX1_journey_51 (by decide) ?_
        refine J_goto (pc := 52) 24 dX1_journey_52 rfl ?_
        exact J_sub (A := [some (.ref 20), some (.int c1), some (.int v5), some (.int v6), none, none]) ⟨rfl, ⟨rfl, ⟨rfl, ⟨rfl, trivial⟩⟩⟩⟩ (ih v5 v6 M5)
      refine J_if_eq (pc := 34) 50 dX1_journey_34 rfl (fun h => if_pos h) (fun h => if_neg h) (fun _ => ?_) (fun _ => ?_)
      · refine J_iconst (pc := 50) 0 dX1_journey_50 (by decide) ?_
        exact J_sub (A := [some (.ref 20), some (.int c1), some (.int v5), none, none, none]) ⟨rfl, ⟨rfl, ⟨rfl, trivial⟩⟩⟩ (hj2 0 M4)
      · refine J_aload_n (pc := 37) dX1_journey_37 rfl ?_
        refine J_bipush (pc := 38) 59 dX1_journey_38 (by decide) ?_
        refine J_callV (pc := 40) (n := 1) (b := 20) (vs := [.int 59]) (ci := 0) (fun l => C_x_eats l 59 M4) (lw_V q510 q512 qs4 q116 q513) nmv_X1_eats rfl (by omega) (by decide) rfl (fun h => sh_k1 h 0 rfl) rfl (Nat.le_of_ble_eq_true rfl) dX1_journey_40 (fun v7 M6 => ?_)
        refine J_if_eq (pc := 43) 50 dX1_journey_43 rfl (fun h => if_pos h) (fun h => if_neg h) (fun _ => ?_) (fun _ => ?_)
        · refine J_iconst (pc := 50) 0 dX1_journey_50 (by decide) ?_
          exact J_sub (A := [some (.ref 20), some (.int c1), some (.int v5), none, none, none]) ⟨rfl, ⟨rfl, ⟨rfl, trivial⟩⟩⟩ (hj2 0 M6)
        · refine J_iconst (pc := 46) 1 dX1_journey_46 (by decide) ?_
          refine J_goto (pc := 47) 51 dX1_journey_47 rfl ?_
          exact J_sub (A := [some (.ref 20), some (.int c1), some (.int v5), none, none, none]) ⟨rfl, ⟨rfl, ⟨rfl, trivial⟩⟩⟩ (hj2 1 M6)

def x_journey_L90 (k114 : Int32 → PM → Option (Int32 × PM)) : Nat → Int32 → PM → Option (Int32 × PM)
  | 0, _, _ => none
  | n + 1, v10, M11 =>
    jn (fun (M12 : PM) =>
    k114 v10 M12) fun j3 =>
    if (M11.i 20 47) ≤ v10 then (j3 M11)
    else (bd (x_does v10 M11) fun v11 M13 =>
    if v11 = 0 then (j3 M13)
    else (lt (v10 + 1) fun v12 =>
    x_journey_L90 k114 n v12 M13))

set_option maxHeartbeats 4000000 in
theorem t_x_journey_L90 (G : JG) (k114 : Int32 → PM → Option (Int32 × PM)) (hk114 : ∀ z5 Me, T_x_journey G  Me 114 [some (.ref 20), none, none, none, none, some (.int z5)] [] (k114 z5 Me)) : ∀ (n : Nat) (v10 : Int32) (M11 : PM), T_x_journey G  M11 90 [some (.ref 20), none, none, none, none, some (.int v10)] [] (x_journey_L90 k114 n v10 M11) := by
  intro n
  induction n with
  | zero =>
    intro v10 M11
    exact J_none
  | succ n ih =>
    intro v10 M11
    rw [x_journey_L90]
    refine J_iload (pc := 90) dX1_journey_90 rfl ?_
    refine J_aload_n (pc := 92) dX1_journey_92 rfl ?_
    refine J_get (pc := 93) (c := 0) (.int (M11.i 20 47)) rfl in_X1 47 (by decide) q231 rfl (fun h => sh_k1 h 0 rfl) (fun _ _ => rfl) dX1_journey_93 ?_
    refine J_jn (P := fun J => ∀ (M12 : PM), T_x_journey G  M12 114 [some (.ref 20), none, none, none, none, some (.int v10)] [] (J M12)) (fun M12 => ?_) (fun j3 hj3 => ?_)
    · exact J_sub (A := [some (.ref 20), none, none, none, none, some (.int v10)]) ⟨rfl, ⟨rfl, trivial⟩⟩ (hk114 v10 M12)
    refine J_icmp_ge (pc := 96) 114 dX1_journey_96 rfl (fun h => if_pos h) (fun h => if_neg h) (fun _ => ?_) (fun _ => ?_)
    · exact J_sub (A := [some (.ref 20), none, none, none, none, some (.int v10)]) ⟨rfl, ⟨rfl, trivial⟩⟩ (hj3 M11)
    · refine J_aload_n (pc := 99) dX1_journey_99 rfl ?_
      refine J_iload (pc := 100) dX1_journey_100 rfl ?_
      refine J_callV (pc := 102) (n := 1) (b := 20) (vs := [.int v10]) (ci := 0) (fun l => C_x_does l v10 M11) (lw_V q783 q785 qs30 q116 q786) nmv_X1_does rfl (by omega) (by decide) rfl (fun h => sh_k1 h 0 rfl) rfl (Nat.le_of_ble_eq_true rfl) dX1_journey_102 (fun v11 M13 => ?_)
      refine J_if_eq (pc := 105) 114 dX1_journey_105 rfl (fun h => if_pos h) (fun h => if_neg h) (fun _ => ?_) (fun _ => ?_)
      · exact J_sub (A := [some (.ref 20), none, none, none, none, some (.int v10)]) ⟨rfl, ⟨rfl, trivial⟩⟩ (hj3 M13)
      · refine J_iincL (pc := 108) (n := 1) (by decide) dX1_journey_108 rfl (by decide) (fun v12 => ?_)
        refine J_goto (pc := 111) 90 dX1_journey_111 rfl ?_
        exact J_sub (A := [some (.ref 20), none, none, none, none, some (.int v12)]) ⟨rfl, ⟨rfl, trivial⟩⟩ (ih v12 M13)

def x_journey (M : PM) : Option (Int32 × PM) :=
    bd (x_begins 60 M) fun v1 M1 =>
    lt (M1.si 20 47 0) fun M2 =>
    lt (if v1 ≤ 0 then 0 else 1 : Int32) fun v2 =>
    x_journey_L24 v1 (fun (v8 : Int32) (M7 : PM) =>
    bd (x_faultOf v1 v8 M7) fun v9 M8 =>
    if 0 ≤ v9 then (bd (rd_becomes 52 21 M8) fun _ M9 =>
    lt (M9.si 20 48 0) fun M10 =>
    x_journey_L90 (fun (v13 : Int32) (M14 : PM) =>
    jn (fun (M15 : PM) =>
    lt (M15.si 20 67 0) fun M16 =>
    jn (fun (w1 : Int64) (M17 : PM) =>
    bd (x_tells w1 M17) fun _ M18 =>
    bd (x_tells (Int32.toInt64 (M18.i 20 48)) M18) fun _ M19 =>
    some (v13, M19)) fun j5 =>
    if (M16.i 20 47) ≤ v13 then (j5 0 M16)
    else (j5 1 M16)) fun j4 =>
    if v13 ≤ 0 then (j4 M14)
    else (bd (x_putsBy 52 M14) fun _ M20 =>
    j4 M20)) FU 0 M10)
    else (some (v9, M8))) FU 1 v2 M2

set_option maxHeartbeats 4000000 in
theorem t_x_journey (G : JG) (M : PM) : T_x_journey G  M 0 (ent [.ref 20] 6) [] (x_journey M) := by
  unfold x_journey
  refine J_aload_n (pc := 0) dX1_journey_0 rfl ?_
  refine J_bipush (pc := 1) 60 dX1_journey_1 (by decide) ?_
  refine J_callV (pc := 3) (n := 1) (b := 20) (vs := [.int 60]) (ci := 0) (fun l => C_x_begins l 60 M) (lw_V q405 q407 qs0 q116 q408) nmv_X1_begins rfl (by omega) (by decide) rfl (fun h => sh_k1 h 0 rfl) rfl (Nat.le_of_ble_eq_true rfl) dX1_journey_3 (fun v1 M1 => ?_)
  refine J_istore_n (pc := 6) dX1_journey_6 (by decide) ?_
  refine J_aload_n (pc := 7) dX1_journey_7 rfl ?_
  refine J_iconst (pc := 8) 0 dX1_journey_8 (by decide) ?_
  refine J_put (pc := 9) (a := 20) (v := .int 0) (M' := M1.si 20 47 0) (c := 0) rfl in_X1 tyX1_ok fnX1 47 (by decide) q231 rfl (Or.inl rfl) (fun h => sh_k1 h 0 rfl) (fun _ => rfl) (fun _ => rfl) ⟨⟨rfl, rfl⟩, rfl⟩ (fun _ hb => up2_same hb) (fun _ _ => rfl) (fun _ _ => rfl) (put_i (fun _ _ _ => rfl)) (fun h => Sh_si h) dX1_journey_9 ?_
  refine J_ltM (fun M2 => ?_)
  refine J_iconst (pc := 12) 1 dX1_journey_12 (by decide) ?_
  refine J_istore_n (pc := 13) dX1_journey_13 (by decide) ?_
  refine J_iload_n (pc := 14) dX1_journey_14 rfl ?_
  refine J_ltj (β := Int32) (P := fun J => ∀ v2 : Int32, T_x_journey G M2 23 [some (.ref 20), some (.int v1), some (.int 1), none, none, none] [.int v2] (J v2)) (fun v2 => ?_) (fun j1 hj1 => ?_)
  · refine J_istore_n (pc := 23) dX1_journey_23 (by decide) ?_
    refine J_sub (A := [some (.ref 20), some (.int v1), some (.int 1), some (.int v2), none, none]) ⟨rfl, ⟨rfl, ⟨rfl, ⟨rfl, trivial⟩⟩⟩⟩ (t_x_journey_L24 G v1 _ ?_ FU 1 v2 M2)
    · intro v8 M7
      refine J_aload_n (pc := 55) dX1_journey_55 rfl ?_
      refine J_iload_n (pc := 56) dX1_journey_56 rfl ?_
      refine J_iload_n (pc := 57) dX1_journey_57 rfl ?_
      refine J_callV (pc := 58) (n := 2) (b := 20) (vs := [.int v1, .int v8]) (ci := 0) (fun l => C_x_faultOf l v1 v8 M7) (lw_V q518 q520 qs6 q116 q521) nmv_X1_faultOf rfl (by omega) (by decide) rfl (fun h => sh_k1 h 0 rfl) rfl (Nat.le_of_ble_eq_true rfl) dX1_journey_58 (fun v9 M8 => ?_)
      refine J_istore (pc := 61) dX1_journey_61 (by decide) ?_
      refine J_iload (pc := 63) dX1_journey_63 rfl ?_
      refine J_if_ge (pc := 65) 71 dX1_journey_65 rfl (fun h => if_pos h) (fun h => if_neg h) (fun _ => ?_) (fun _ => ?_)
      · refine J_aload_n (pc := 71) dX1_journey_71 rfl ?_
        refine J_get (pc := 72) (c := 0) (.ref 52) rfl in_X1 42 (by decide) q226 rfl (fun h => sh_k1 h 0 rfl) (fun h _ => fv_ref (Or.inl ⟨_, rfl⟩) (sh_r h 35 rfl)) dX1_journey_72 ?_
        refine J_aload_n (pc := 75) dX1_journey_75 rfl ?_
        refine J_get (pc := 76) (c := 0) (.ref 21) rfl in_X1 0 (by decide) q177 rfl (fun h => sh_k1 h 0 rfl) (fun h _ => fv_ref (Or.inl ⟨_, rfl⟩) (sh_r h 4 rfl)) dX1_journey_76 ?_
        refine J_callV (pc := 79) (n := 1) (b := 52) (vs := [.ref 21]) (ci := 1) (fun l => C_rd_becomes l 52 21 M8) (lw_V q665 q666 q667 q117 q668) nmv_X2_becomes rfl (by omega) (by decide) rfl (fun h => sh_k1 h 32 rfl) rfl (Nat.le_of_ble_eq_true rfl) dX1_journey_79 (fun _ M9 => ?_)
        refine J_aload_n (pc := 82) dX1_journey_82 rfl ?_
        refine J_iconst (pc := 83) 0 dX1_journey_83 (by decide) ?_
        refine J_put (pc := 84) (a := 20) (v := .int 0) (M' := M9.si 20 48 0) (c := 0) rfl in_X1 tyX1_ok fnX1 48 (by decide) q232 rfl (Or.inl rfl) (fun h => sh_k1 h 0 rfl) (fun _ => rfl) (fun _ => rfl) ⟨⟨rfl, rfl⟩, rfl⟩ (fun _ hb => up2_same hb) (fun _ _ => rfl) (fun _ _ => rfl) (put_i (fun _ _ _ => rfl)) (fun h => Sh_si h) dX1_journey_84 ?_
        refine J_ltM (fun M10 => ?_)
        refine J_iconst (pc := 87) 0 dX1_journey_87 (by decide) ?_
        refine J_istore (pc := 88) dX1_journey_88 (by decide) ?_
        refine J_sub (A := [some (.ref 20), none, none, none, none, some (.int 0)]) ⟨rfl, ⟨rfl, trivial⟩⟩ (t_x_journey_L90 G _ ?_ FU 0 M10)
        · intro v13 M14
          refine J_iload (pc := 114) dX1_journey_114 rfl ?_
          refine J_jn (P := fun J => ∀ (M15 : PM), T_x_journey G  M15 127 [some (.ref 20), none, none, none, none, some (.int v13)] [] (J M15)) (fun M15 => ?_) (fun j4 hj4 => ?_)
          · refine J_aload_n (pc := 127) dX1_journey_127 rfl ?_
            refine J_iconst (pc := 128) 0 dX1_journey_128 (by decide) ?_
            refine J_put (pc := 129) (a := 20) (v := .int 0) (M' := M15.si 20 67 0) (c := 0) rfl in_X1 tyX1_ok fnX1 67 (by decide) q251 rfl (Or.inl rfl) (fun h => sh_k1 h 0 rfl) (fun _ => rfl) (fun _ => rfl) ⟨⟨rfl, rfl⟩, rfl⟩ (fun _ hb => up2_same hb) (fun _ _ => rfl) (fun _ _ => rfl) (put_i (fun _ _ _ => rfl)) (fun h => Sh_si h) dX1_journey_129 ?_
            refine J_ltM (fun M16 => ?_)
            refine J_aload_n (pc := 132) dX1_journey_132 rfl ?_
            refine J_iload (pc := 133) dX1_journey_133 rfl ?_
            refine J_aload_n (pc := 135) dX1_journey_135 rfl ?_
            refine J_get (pc := 136) (c := 0) (.int (M16.i 20 47)) rfl in_X1 47 (by decide) q231 rfl (fun h => sh_k1 h 0 rfl) (fun _ _ => rfl) dX1_journey_136 ?_
            refine J_jn (P := fun J => ∀ (w1 : Int64) (M17 : PM), T_x_journey G  M17 147 [some (.ref 20), none, none, none, none, some (.int v13)] [.long w1, .ref 20] (J w1 M17)) (fun w1 M17 => ?_) (fun j5 hj5 => ?_)
            · refine J_callV (pc := 147) (n := 1) (b := 20) (vs := [.long w1]) (ci := 0) (fun l => C_x_tells l w1 M17) (lw_V q708 q710 qs20 q116 q711) nmv_X1_tells rfl (by omega) (by decide) rfl (fun h => sh_k1 h 0 rfl) rfl (Nat.le_of_ble_eq_true rfl) dX1_journey_147 (fun _ M18 => ?_)
              refine J_aload_n (pc := 150) dX1_journey_150 rfl ?_
              refine J_aload_n (pc := 151) dX1_journey_151 rfl ?_
              refine J_get (pc := 152) (c := 0) (.int (M18.i 20 48)) rfl in_X1 48 (by decide) q232 rfl (fun h => sh_k1 h 0 rfl) (fun _ _ => rfl) dX1_journey_152 ?_
              refine J_i2l (pc := 155) dX1_journey_155 ?_
              refine J_callV (pc := 156) (n := 1) (b := 20) (vs := [.long (Int32.toInt64 (M18.i 20 48))]) (ci := 0) (fun l => C_x_tells l (Int32.toInt64 (M18.i 20 48)) M18) (lw_V q708 q710 qs20 q116 q711) nmv_X1_tells rfl (by omega) (by decide) rfl (fun h => sh_k1 h 0 rfl) rfl (Nat.le_of_ble_eq_true rfl) dX1_journey_156 (fun _ M19 => ?_)
              refine J_iload (pc := 159) dX1_journey_159 rfl ?_
              exact J_iret (pc := 161) dX1_journey_161
            refine J_icmp_ge (pc := 139) 146 dX1_journey_139 rfl (fun h => if_pos h) (fun h => if_neg h) (fun _ => ?_) (fun _ => ?_)
            · refine J_lconst (pc := 146) 0 dX1_journey_146 (by decide) ?_
              exact J_sub (A := [some (.ref 20), none, none, none, none, some (.int v13)]) ⟨rfl, ⟨rfl, trivial⟩⟩ (hj5 0 M16)
            · refine J_lconst (pc := 142) 1 dX1_journey_142 (by decide) ?_
              refine J_goto (pc := 143) 147 dX1_journey_143 rfl ?_
              exact J_sub (A := [some (.ref 20), none, none, none, none, some (.int v13)]) ⟨rfl, ⟨rfl, trivial⟩⟩ (hj5 1 M16)
          refine J_if_le (pc := 116) 127 dX1_journey_116 rfl (fun h => if_pos h) (fun h => if_neg h) (fun _ => ?_) (fun _ => ?_)
          · exact J_sub (A := [some (.ref 20), none, none, none, none, some (.int v13)]) ⟨rfl, ⟨rfl, trivial⟩⟩ (hj4 M14)
          · refine J_aload_n (pc := 119) dX1_journey_119 rfl ?_
            refine J_aload_n (pc := 120) dX1_journey_120 rfl ?_
            refine J_get (pc := 121) (c := 0) (.ref 52) rfl in_X1 42 (by decide) q226 rfl (fun h => sh_k1 h 0 rfl) (fun h _ => fv_ref (Or.inl ⟨_, rfl⟩) (sh_r h 35 rfl)) dX1_journey_121 ?_
            refine J_callV (pc := 124) (n := 1) (b := 20) (vs := [.ref 52]) (ci := 0) (fun l => C_x_putsBy l 52 M14) (lw_V q728 q730 qs24 q116 q731) nmv_X1_putsBy rfl (by omega) (by decide) rfl (fun h => sh_k1 h 0 rfl) rfl (Nat.le_of_ble_eq_true rfl) dX1_journey_124 (fun _ M20 => ?_)
            exact J_sub (A := [some (.ref 20), none, none, none, none, some (.int v13)]) ⟨rfl, ⟨rfl, trivial⟩⟩ (hj4 M20)
      · refine J_iload (pc := 68) dX1_journey_68 rfl ?_
        exact J_iret (pc := 70) dX1_journey_70
  refine J_if_le (pc := 15) 22 dX1_journey_15 rfl (fun h => congrArg j1 (if_pos h)) (fun h => congrArg j1 (if_neg h)) (fun _ => ?_) (fun _ => ?_)
  · refine J_iconst (pc := 22) 0 dX1_journey_22 (by decide) ?_
    exact J_sub (A := [some (.ref 20), some (.int v1), some (.int 1), none, none, none]) ⟨rfl, ⟨rfl, ⟨rfl, trivial⟩⟩⟩ (hj1 0)
  · refine J_iconst (pc := 18) 1 dX1_journey_18 (by decide) ?_
    refine J_goto (pc := 19) 23 dX1_journey_19 rfl ?_
    exact J_sub (A := [some (.ref 20), some (.int v1), some (.int 1), none, none, none]) ⟨rfl, ⟨rfl, ⟨rfl, trivial⟩⟩⟩ (hj1 1)

theorem C_x_journey (l : Launch) (M : PM) : Ctr l Sh yX1_journey cX1_journey 6 (some .int) 146 rvI [.ref 20] M (x_journey M) := Ctr.of (by decide +kernel) (Nat.le_of_ble_eq_true rfl) (fun G => t_x_journey G M)

abbrev T_x_cheapest (G : JG) (M : PM) (pc : Nat) (L : List (Option Value)) (S : List Value) (o : Option (Int32 × PM)) : Prop := JJ G cX1_cheapest yX1_cheapest 6 144 (some .int) Sh (finR G Sh rvI) M pc L S o
def x_cheapest_L43 (c1 : Int32) (c2 : Int32) (c3 : Int32) (k78 : Int32 → PM → Option (Int32 × PM)) : Nat → Int32 → Int32 → PM → Option (Int32 × PM)
  | 0, _, _, _ => none
  | n + 1, v4, v5, M4 =>
    if (M4.i 20 11) ≤ v5 then (k78 v4 M4)
    else (bd (x_means v5 c1 M4) fun v6 M5 =>
    lt (if v6 = 0 then 0 else 1 : Int32) fun v7 =>
    lt (v4 + v7) fun v8 =>
    lt (v5 + 1) fun v9 =>
    x_cheapest_L43 c1 c2 c3 k78 n v8 v9 M5)

set_option maxHeartbeats 4000000 in
theorem t_x_cheapest_L43 (G : JG) (c1 : Int32) (c2 : Int32) (c3 : Int32) (k78 : Int32 → PM → Option (Int32 × PM)) (hk78 : ∀ z4 Me, T_x_cheapest G  Me 78 [some (.ref 20), none, some (.int c2), some (.int c3), some (.int z4), none] [] (k78 z4 Me)) : ∀ (n : Nat) (v4 : Int32) (v5 : Int32) (M4 : PM), T_x_cheapest G  M4 43 [some (.ref 20), some (.int c1), some (.int c2), some (.int c3), some (.int v4), some (.int v5)] [] (x_cheapest_L43 c1 c2 c3 k78 n v4 v5 M4) := by
  intro n
  induction n with
  | zero =>
    intro v4 v5 M4
    exact J_none
  | succ n ih =>
    intro v4 v5 M4
    rw [x_cheapest_L43]
    refine J_iload (pc := 43) dX1_cheapest_43 rfl ?_
    refine J_aload_n (pc := 45) dX1_cheapest_45 rfl ?_
    refine J_get (pc := 46) (c := 0) (.int (M4.i 20 11)) rfl in_X1 11 (by decide) q188 rfl (fun h => sh_k1 h 0 rfl) (fun _ _ => rfl) dX1_cheapest_46 ?_
    refine J_icmp_ge (pc := 49) 78 dX1_cheapest_49 rfl (fun h => if_pos h) (fun h => if_neg h) (fun _ => ?_) (fun _ => ?_)
    · exact J_sub (A := [some (.ref 20), none, some (.int c2), some (.int c3), some (.int v4), none]) ⟨rfl, ⟨rfl, ⟨rfl, ⟨rfl, trivial⟩⟩⟩⟩ (hk78 v4 M4)
    · refine J_iload (pc := 52) dX1_cheapest_52 rfl ?_
      refine J_aload_n (pc := 54) dX1_cheapest_54 rfl ?_
      refine J_iload (pc := 55) dX1_cheapest_55 rfl ?_
      refine J_iload_n (pc := 57) dX1_cheapest_57 rfl ?_
      refine J_callV (pc := 58) (n := 2) (b := 20) (vs := [.int v5, .int c1]) (ci := 0) (fun l => C_x_means l v5 c1 M4) (lw_V q760 q762 qs27 q116 q763) nmv_X1_means rfl (by omega) (by decide) rfl (fun h => sh_k1 h 0 rfl) rfl (Nat.le_of_ble_eq_true rfl) dX1_cheapest_58 (fun v6 M5 => ?_)
      refine J_ltj (β := Int32) (P := fun J => ∀ v7 : Int32, T_x_cheapest G M5 69 [some (.ref 20), some (.int c1), some (.int c2), some (.int c3), none, some (.int v5)] [.int v7, .int v4] (J v7)) (fun v7 => ?_) (fun j1 hj1 => ?_)
      · refine J_iadd (pc := 69) dX1_cheapest_69 ?_
        refine J_lt (β := Int32) (v := (v4 + v7)) (L := fun _ => _) (S := fun v8 => [.int v8]) (fun v8 => ?_)
        refine J_istore (pc := 70) dX1_cheapest_70 (by decide) ?_
        refine J_iincL (pc := 72) (n := 1) (by decide) dX1_cheapest_72 rfl (by decide) (fun v9 => ?_)
        refine J_goto (pc := 75) 43 dX1_cheapest_75 rfl ?_
        exact J_sub (A := [some (.ref 20), some (.int c1), some (.int c2), some (.int c3), some (.int v8), some (.int v9)]) ⟨rfl, ⟨rfl, ⟨rfl, ⟨rfl, ⟨rfl, ⟨rfl, trivial⟩⟩⟩⟩⟩⟩ (ih v8 v9 M5)
      refine J_if_eq (pc := 61) 68 dX1_cheapest_61 rfl (fun h => congrArg j1 (if_pos h)) (fun h => congrArg j1 (if_neg h)) (fun _ => ?_) (fun _ => ?_)
      · refine J_iconst (pc := 68) 0 dX1_cheapest_68 (by decide) ?_
        exact J_sub (A := [some (.ref 20), some (.int c1), some (.int c2), some (.int c3), none, some (.int v5)]) ⟨rfl, ⟨rfl, ⟨rfl, ⟨rfl, ⟨rfl, trivial⟩⟩⟩⟩⟩ (hj1 0)
      · refine J_iconst (pc := 64) 1 dX1_cheapest_64 (by decide) ?_
        refine J_goto (pc := 65) 69 dX1_cheapest_65 rfl ?_
        exact J_sub (A := [some (.ref 20), some (.int c1), some (.int c2), some (.int c3), none, some (.int v5)]) ⟨rfl, ⟨rfl, ⟨rfl, ⟨rfl, ⟨rfl, trivial⟩⟩⟩⟩⟩ (hj1 1)

def x_cheapest (p1 : Int32) (p2 : Int32) (M : PM) : Option (Int32 × PM) :=
    bd (x_in (Int32.toInt64 p1) 0 9 M) fun v1 M1 =>
    if v1 = 0 then (some ((-1), M1))
    else (bd (x_isStation p2 M1) fun v2 M2 =>
    if v2 = 0 then (some ((-1), M2))
    else (bd (x_cheapestFor p1 p2 0 M2) fun v3 M3 =>
    if 0 ≤ v3 then (x_cheapest_L43 p1 p2 v3 (fun (v10 : Int32) (M6 : PM) =>
    lt (M6.si 20 67 0) fun M7 =>
    bd (x_tollNow v3 p2 M7) fun v11 M8 =>
    bd (x_tells (Int32.toInt64 v11) M8) fun _ M9 =>
    bd (x_tells (Int32.toInt64 v10) M9) fun _ M10 =>
    some (v3, M10)) FU 0 0 M3)
    else (some ((-2), M3))))

set_option maxHeartbeats 4000000 in
theorem t_x_cheapest (G : JG) (p1 : Int32) (p2 : Int32) (M : PM) : T_x_cheapest G  M 0 (ent [.ref 20, .int p1, .int p2] 6) [] (x_cheapest p1 p2 M) := by
  unfold x_cheapest
  refine J_iload_n (pc := 0) dX1_cheapest_0 rfl ?_
  refine J_i2l (pc := 1) dX1_cheapest_1 ?_
  refine J_lconst (pc := 2) 0 dX1_cheapest_2 (by decide) ?_
  refine J_ldc2 (pc := 3) 9 q816 dX1_cheapest_3 ?_
  refine J_callS (pc := 6) (n := 3) (vs := [.long (Int32.toInt64 p1), .long 0, .long 9]) (fun l => C_x_in l (Int32.toInt64 p1) 0 9 M) (lw_S q398 q399 q116 q400) nmh_X1_in rfl (by omega) (by decide) rfl (Nat.le_of_ble_eq_true rfl) dX1_cheapest_6 (fun v1 M1 => ?_)
  refine J_if_eq (pc := 9) 20 dX1_cheapest_9 rfl (fun h => if_pos h) (fun h => if_neg h) (fun _ => ?_) (fun _ => ?_)
  · refine J_iconst (pc := 20) (-1) dX1_cheapest_20 (by decide) ?_
    exact J_iret (pc := 21) dX1_cheapest_21
  · refine J_aload_n (pc := 12) dX1_cheapest_12 rfl ?_
    refine J_iload_n (pc := 13) dX1_cheapest_13 rfl ?_
    refine J_callV (pc := 14) (n := 1) (b := 20) (vs := [.int p2]) (ci := 0) (fun l => C_x_isStation l p2 M1) (lw_V q678 q680 qs17 q116 q681) nmv_X1_isStation rfl (by omega) (by decide) rfl (fun h => sh_k1 h 0 rfl) rfl (Nat.le_of_ble_eq_true rfl) dX1_cheapest_14 (fun v2 M2 => ?_)
    refine J_if_ne (pc := 17) 22 dX1_cheapest_17 rfl (fun h => if_neg h) (fun h => if_pos h) (fun _ => ?_) (fun _ => ?_)
    · refine J_aload_n (pc := 22) dX1_cheapest_22 rfl ?_
      refine J_iload_n (pc := 23) dX1_cheapest_23 rfl ?_
      refine J_iload_n (pc := 24) dX1_cheapest_24 rfl ?_
      refine J_iconst (pc := 25) 0 dX1_cheapest_25 (by decide) ?_
      refine J_callV (pc := 26) (n := 3) (b := 20) (vs := [.int p1, .int p2, .int 0]) (ci := 0) (fun l => C_x_cheapestFor l p1 p2 0 M2) (lw_V q795 q797 qs33 q116 q798) nmv_X1_cheapestFor rfl (by omega) (by decide) rfl (fun h => sh_k1 h 0 rfl) rfl (Nat.le_of_ble_eq_true rfl) dX1_cheapest_26 (fun v3 M3 => ?_)
      refine J_istore_n (pc := 29) dX1_cheapest_29 (by decide) ?_
      refine J_iload_n (pc := 30) dX1_cheapest_30 rfl ?_
      refine J_if_ge (pc := 31) 37 dX1_cheapest_31 rfl (fun h => if_pos h) (fun h => if_neg h) (fun _ => ?_) (fun _ => ?_)
      · refine J_iconst (pc := 37) 0 dX1_cheapest_37 (by decide) ?_
        refine J_istore (pc := 38) dX1_cheapest_38 (by decide) ?_
        refine J_iconst (pc := 40) 0 dX1_cheapest_40 (by decide) ?_
        refine J_istore (pc := 41) dX1_cheapest_41 (by decide) ?_
        refine J_sub (A := [some (.ref 20), some (.int p1), some (.int p2), some (.int v3), some (.int 0), some (.int 0)]) ⟨rfl, ⟨rfl, ⟨rfl, ⟨rfl, ⟨rfl, ⟨rfl, trivial⟩⟩⟩⟩⟩⟩ (t_x_cheapest_L43 G p1 p2 v3 _ ?_ FU 0 0 M3)
        · intro v10 M6
          refine J_aload_n (pc := 78) dX1_cheapest_78 rfl ?_
          refine J_iconst (pc := 79) 0 dX1_cheapest_79 (by decide) ?_
          refine J_put (pc := 80) (a := 20) (v := .int 0) (M' := M6.si 20 67 0) (c := 0) rfl in_X1 tyX1_ok fnX1 67 (by decide) q251 rfl (Or.inl rfl) (fun h => sh_k1 h 0 rfl) (fun _ => rfl) (fun _ => rfl) ⟨⟨rfl, rfl⟩, rfl⟩ (fun _ hb => up2_same hb) (fun _ _ => rfl) (fun _ _ => rfl) (put_i (fun _ _ _ => rfl)) (fun h => Sh_si h) dX1_cheapest_80 ?_
          refine J_ltM (fun M7 => ?_)
          refine J_aload_n (pc := 83) dX1_cheapest_83 rfl ?_
          refine J_aload_n (pc := 84) dX1_cheapest_84 rfl ?_
          refine J_iload_n (pc := 85) dX1_cheapest_85 rfl ?_
          refine J_iload_n (pc := 86) dX1_cheapest_86 rfl ?_
          refine J_callV (pc := 87) (n := 2) (b := 20) (vs := [.int v3, .int p2]) (ci := 0) (fun l => C_x_tollNow l v3 p2 M7) (lw_V q800 q802 qs34 q116 q803) nmv_X1_tollNow rfl (by omega) (by decide) rfl (fun h => sh_k1 h 0 rfl) rfl (Nat.le_of_ble_eq_true rfl) dX1_cheapest_87 (fun v11 M8 => ?_)
          refine J_i2l (pc := 90) dX1_cheapest_90 ?_
          refine J_callV (pc := 91) (n := 1) (b := 20) (vs := [.long (Int32.toInt64 v11)]) (ci := 0) (fun l => C_x_tells l (Int32.toInt64 v11) M8) (lw_V q708 q710 qs20 q116 q711) nmv_X1_tells rfl (by omega) (by decide) rfl (fun h => sh_k1 h 0 rfl) rfl (Nat.le_of_ble_eq_true rfl) dX1_cheapest_91 (fun _ M9 => ?_)
          refine J_aload_n (pc := 94) dX1_cheapest_94 rfl ?_
          refine J_iload (pc := 95) dX1_cheapest_95 rfl ?_
          refine J_i2l (pc := 97) dX1_cheapest_97 ?_
          refine J_callV (pc := 98) (n := 1) (b := 20) (vs := [.long (Int32.toInt64 v10)]) (ci := 0) (fun l => C_x_tells l (Int32.toInt64 v10) M9) (lw_V q708 q710 qs20 q116 q711) nmv_X1_tells rfl (by omega) (by decide) rfl (fun h => sh_k1 h 0 rfl) rfl (Nat.le_of_ble_eq_true rfl) dX1_cheapest_98 (fun _ M10 => ?_)
          refine J_iload_n (pc := 101) dX1_cheapest_101 rfl ?_
          exact J_iret (pc := 102) dX1_cheapest_102
      · refine J_bipush (pc := 34) (-2) dX1_cheapest_34 (by decide) ?_
        exact J_iret (pc := 36) dX1_cheapest_36
    · refine J_iconst (pc := 20) (-1) dX1_cheapest_20 (by decide) ?_
      exact J_iret (pc := 21) dX1_cheapest_21

theorem C_x_cheapest (l : Launch) (p1 : Int32) (p2 : Int32) (M : PM) : Ctr l Sh yX1_cheapest cX1_cheapest 6 (some .int) 144 rvI [.ref 20, .int p1, .int p2] M (x_cheapest p1 p2 M) := Ctr.of (by decide +kernel) (Nat.le_of_ble_eq_true rfl) (fun G => t_x_cheapest G p1 p2 M)

abbrev T_x_tellsFrom (G : JG) (M : PM) (pc : Nat) (L : List (Option Value)) (S : List Value) (o : Option (Int32 × PM)) : Prop := JJ G cX1_tellsFrom yX1_tellsFrom 3 1 (some .int) Sh (finR G Sh rvI) M pc L S o
def x_tellsFrom (p1 : Int32) (p2 : Int32) (M : PM) : Option (Int32 × PM) :=
    ck p1 10 <|
    ck p2 13 <|
    if (M.i 33 (ix p1)) = (M.i 59 (ix p2)) then (ck p1 10 <|
    if 0 ≤ (M.i 34 (ix p1)) then (if (M.i 20 51) ≤ (p2 + 1) then (some (0, M))
    else (ck p1 10 <|
    ck (p2 + 1) 13 <|
    if (M.i 34 (ix p1)) = (M.i 59 (ix (p2 + 1))) then (some (2, M))
    else (some (0, M))))
    else (some (1, M)))
    else (some (0, M))

set_option maxHeartbeats 4000000 in
theorem t_x_tellsFrom (G : JG) (p1 : Int32) (p2 : Int32) (M : PM) : T_x_tellsFrom G  M 0 (ent [.ref 20, .int p1, .int p2] 3) [] (x_tellsFrom p1 p2 M) := by
  unfold x_tellsFrom
  refine J_aload_n (pc := 0) dX1_tellsFrom_0 rfl ?_
  refine J_get (pc := 1) (c := 0) (.ref 33) rfl in_X1 4 (by decide) q181 rfl (fun h => sh_k1 h 0 rfl) (fun h _ => fv_ref (Or.inr ⟨_, rfl⟩) (sh_r h 12 rfl)) dX1_tellsFrom_1 ?_
  refine J_iload_n (pc := 4) dX1_tellsFrom_4 rfl ?_
  refine J_ck (fun h1 => ?_)
  refine J_iald (pc := 5) (a := 33) (fun h => sh_a h 13 rfl h1) dX1_tellsFrom_5 ?_
  refine J_aload_n (pc := 6) dX1_tellsFrom_6 rfl ?_
  refine J_get (pc := 7) (c := 0) (.ref 59) rfl in_X1 49 (by decide) q233 rfl (fun h => sh_k1 h 0 rfl) (fun h _ => fv_ref (Or.inr ⟨_, rfl⟩) (sh_r h 38 rfl)) dX1_tellsFrom_7 ?_
  refine J_iload_n (pc := 10) dX1_tellsFrom_10 rfl ?_
  refine J_ck (fun h2 => ?_)
  refine J_iald (pc := 11) (a := 59) (fun h => sh_a h 39 rfl h2) dX1_tellsFrom_11 ?_
  refine J_icmp_eq (pc := 12) 17 dX1_tellsFrom_12 rfl (fun h => if_pos h) (fun h => if_neg h) (fun _ => ?_) (fun _ => ?_)
  · refine J_aload_n (pc := 17) dX1_tellsFrom_17 rfl ?_
    refine J_get (pc := 18) (c := 0) (.ref 34) rfl in_X1 5 (by decide) q182 rfl (fun h => sh_k1 h 0 rfl) (fun h _ => fv_ref (Or.inr ⟨_, rfl⟩) (sh_r h 13 rfl)) dX1_tellsFrom_18 ?_
    refine J_iload_n (pc := 21) dX1_tellsFrom_21 rfl ?_
    refine J_ck (fun h3 => ?_)
    refine J_iald (pc := 22) (a := 34) (fun h => sh_a h 14 rfl h3) dX1_tellsFrom_22 ?_
    refine J_if_ge (pc := 23) 28 dX1_tellsFrom_23 rfl (fun h => if_pos h) (fun h => if_neg h) (fun _ => ?_) (fun _ => ?_)
    · refine J_iload_n (pc := 28) dX1_tellsFrom_28 rfl ?_
      refine J_iconst (pc := 29) 1 dX1_tellsFrom_29 (by decide) ?_
      refine J_iadd (pc := 30) dX1_tellsFrom_30 ?_
      refine J_aload_n (pc := 31) dX1_tellsFrom_31 rfl ?_
      refine J_get (pc := 32) (c := 0) (.int (M.i 20 51)) rfl in_X1 51 (by decide) q235 rfl (fun h => sh_k1 h 0 rfl) (fun _ _ => rfl) dX1_tellsFrom_32 ?_
      refine J_icmp_ge (pc := 35) 59 dX1_tellsFrom_35 rfl (fun h => if_pos h) (fun h => if_neg h) (fun _ => ?_) (fun _ => ?_)
      · refine J_iconst (pc := 59) 0 dX1_tellsFrom_59 (by decide) ?_
        exact J_iret (pc := 60) dX1_tellsFrom_60
      · refine J_aload_n (pc := 38) dX1_tellsFrom_38 rfl ?_
        refine J_get (pc := 39) (c := 0) (.ref 34) rfl in_X1 5 (by decide) q182 rfl (fun h => sh_k1 h 0 rfl) (fun h _ => fv_ref (Or.inr ⟨_, rfl⟩) (sh_r h 13 rfl)) dX1_tellsFrom_39 ?_
        refine J_iload_n (pc := 42) dX1_tellsFrom_42 rfl ?_
        refine J_ck (fun h4 => ?_)
        refine J_iald (pc := 43) (a := 34) (fun h => sh_a h 14 rfl h4) dX1_tellsFrom_43 ?_
        refine J_aload_n (pc := 44) dX1_tellsFrom_44 rfl ?_
        refine J_get (pc := 45) (c := 0) (.ref 59) rfl in_X1 49 (by decide) q233 rfl (fun h => sh_k1 h 0 rfl) (fun h _ => fv_ref (Or.inr ⟨_, rfl⟩) (sh_r h 38 rfl)) dX1_tellsFrom_45 ?_
        refine J_iload_n (pc := 48) dX1_tellsFrom_48 rfl ?_
        refine J_iconst (pc := 49) 1 dX1_tellsFrom_49 (by decide) ?_
        refine J_iadd (pc := 50) dX1_tellsFrom_50 ?_
        refine J_ck (fun h5 => ?_)
        refine J_iald (pc := 51) (a := 59) (fun h => sh_a h 39 rfl h5) dX1_tellsFrom_51 ?_
        refine J_icmp_ne (pc := 52) 59 dX1_tellsFrom_52 rfl (fun h => if_neg h) (fun h => if_pos h) (fun _ => ?_) (fun _ => ?_)
        · refine J_iconst (pc := 59) 0 dX1_tellsFrom_59 (by decide) ?_
          exact J_iret (pc := 60) dX1_tellsFrom_60
        · refine J_iconst (pc := 55) 2 dX1_tellsFrom_55 (by decide) ?_
          refine J_goto (pc := 56) 60 dX1_tellsFrom_56 rfl ?_
          exact J_iret (pc := 60) dX1_tellsFrom_60
    · refine J_iconst (pc := 26) 1 dX1_tellsFrom_26 (by decide) ?_
      exact J_iret (pc := 27) dX1_tellsFrom_27
  · refine J_iconst (pc := 15) 0 dX1_tellsFrom_15 (by decide) ?_
    exact J_iret (pc := 16) dX1_tellsFrom_16

theorem C_x_tellsFrom (l : Launch) (p1 : Int32) (p2 : Int32) (M : PM) : Ctr l Sh yX1_tellsFrom cX1_tellsFrom 3 (some .int) 1 rvI [.ref 20, .int p1, .int p2] M (x_tellsFrom p1 p2 M) := Ctr.of (by decide +kernel) (Nat.le_of_ble_eq_true rfl) (fun G => t_x_tellsFrom G p1 p2 M)

abbrev T_x_costFrom (G : JG) (M : PM) (pc : Nat) (L : List (Option Value)) (S : List Value) (o : Option (Int32 × PM)) : Prop := JJ G cX1_costFrom yX1_costFrom 5 143 (some .int) Sh (finR G Sh rvI) M pc L S o
def x_costFrom (p1 : Int32) (p2 : Int32) (p3 : Int32) (M : PM) : Option (Int32 × PM) :=
    bd (x_tellsFrom p1 p2 M) fun v1 M1 =>
    if v1 = 0 then (some (1000000000, M1))
    else (bd (x_tollNow p1 p3 M1) fun v2 M2 =>
    ck (p2 + v1) 14 <|
    some ((imin 1000000000 (v2 + (M2.i 60 (ix (p2 + v1))))), M2))

set_option maxHeartbeats 4000000 in
theorem t_x_costFrom (G : JG) (p1 : Int32) (p2 : Int32) (p3 : Int32) (M : PM) : T_x_costFrom G  M 0 (ent [.ref 20, .int p1, .int p2, .int p3] 5) [] (x_costFrom p1 p2 p3 M) := by
  unfold x_costFrom
  refine J_aload_n (pc := 0) dX1_costFrom_0 rfl ?_
  refine J_iload_n (pc := 1) dX1_costFrom_1 rfl ?_
  refine J_iload_n (pc := 2) dX1_costFrom_2 rfl ?_
  refine J_callV (pc := 3) (n := 2) (b := 20) (vs := [.int p1, .int p2]) (ci := 0) (fun l => C_x_tellsFrom l p1 p2 M) (lw_V q825 q827 qs38 q116 q828) nmv_X1_tellsFrom rfl (by omega) (by decide) rfl (fun h => sh_k1 h 0 rfl) rfl (Nat.le_of_ble_eq_true rfl) dX1_costFrom_3 (fun v1 M1 => ?_)
  refine J_istore (pc := 6) dX1_costFrom_6 (by decide) ?_
  refine J_iload (pc := 8) dX1_costFrom_8 rfl ?_
  refine J_if_ne (pc := 10) 19 dX1_costFrom_10 rfl (fun h => if_neg h) (fun h => if_pos h) (fun _ => ?_) (fun _ => ?_)
  · refine J_ldcw (pc := 19) 1000000000 q799 dX1_costFrom_19 ?_
    refine J_aload_n (pc := 22) dX1_costFrom_22 rfl ?_
    refine J_iload_n (pc := 23) dX1_costFrom_23 rfl ?_
    refine J_iload_n (pc := 24) dX1_costFrom_24 rfl ?_
    refine J_callV (pc := 25) (n := 2) (b := 20) (vs := [.int p1, .int p3]) (ci := 0) (fun l => C_x_tollNow l p1 p3 M1) (lw_V q800 q802 qs34 q116 q803) nmv_X1_tollNow rfl (by omega) (by decide) rfl (fun h => sh_k1 h 0 rfl) rfl (Nat.le_of_ble_eq_true rfl) dX1_costFrom_25 (fun v2 M2 => ?_)
    refine J_aload_n (pc := 28) dX1_costFrom_28 rfl ?_
    refine J_get (pc := 29) (c := 0) (.ref 60) rfl in_X1 50 (by decide) q234 rfl (fun h => sh_k1 h 0 rfl) (fun h _ => fv_ref (Or.inr ⟨_, rfl⟩) (sh_r h 39 rfl)) dX1_costFrom_29 ?_
    refine J_iload_n (pc := 32) dX1_costFrom_32 rfl ?_
    refine J_iload (pc := 33) dX1_costFrom_33 rfl ?_
    refine J_iadd (pc := 35) dX1_costFrom_35 ?_
    refine J_ck (fun h1 => ?_)
    refine J_iald (pc := 36) (a := 60) (fun h => sh_a h 40 rfl h1) dX1_costFrom_36 ?_
    refine J_iadd (pc := 37) dX1_costFrom_37 ?_
    refine J_min (pc := 38) (by omega) q409 q410 q119 q411 (Nat.le_of_ble_eq_true rfl) dX1_costFrom_38 ?_
    exact J_iret (pc := 41) dX1_costFrom_41
  · refine J_ldcw (pc := 13) 1000000000 q799 dX1_costFrom_13 ?_
    refine J_goto (pc := 16) 41 dX1_costFrom_16 rfl ?_
    exact J_iret (pc := 41) dX1_costFrom_41

theorem C_x_costFrom (l : Launch) (p1 : Int32) (p2 : Int32) (p3 : Int32) (M : PM) : Ctr l Sh yX1_costFrom cX1_costFrom 5 (some .int) 143 rvI [.ref 20, .int p1, .int p2, .int p3] M (x_costFrom p1 p2 p3 M) := Ctr.of (by decide +kernel) (Nat.le_of_ble_eq_true rfl) (fun G => t_x_costFrom G p1 p2 p3 M)

abbrev T_x_sentence (G : JG) (M : PM) (pc : Nat) (L : List (Option Value)) (S : List Value) (o : Option (Int32 × PM)) : Prop := JJ G cX1_sentence yX1_sentence 4 144 (some .int) Sh (finR G Sh rvI) M pc L S o
def x_sentence_L23 (c1 : Int32) (k66 : PM → Option (Int32 × PM)) : Nat → PM → Option (Int32 × PM)
  | 0, _ => none
  | n + 1, M4 =>
    jn (fun (M5 : PM) =>
    k66 M5) fun j1 =>
    if 12 ≤ (M4.i 20 51) then (j1 M4)
    else (bd (x_isDigit M4) fun v3 M6 =>
    if v3 = 0 then (j1 M6)
    else (bd (x_number 1 M6) fun v4 M7 =>
    ck (M6.i 20 51) 13 <|
    lt (M7.si 59 (ix (M6.i 20 51)) v4) fun M8 =>
    lt (M8.si 20 51 ((M8.i 20 51) + 1)) fun M9 =>
    x_sentence_L23 c1 k66 n M9))

set_option maxHeartbeats 4000000 in
theorem t_x_sentence_L23 (G : JG) (c1 : Int32) (k66 : PM → Option (Int32 × PM)) (hk66 : ∀ Me, T_x_sentence G  Me 66 [some (.ref 20), some (.int c1), none, none] [] (k66 Me)) : ∀ (n : Nat) (M4 : PM), T_x_sentence G  M4 23 [some (.ref 20), some (.int c1), none, none] [] (x_sentence_L23 c1 k66 n  M4) := by
  intro n
  induction n with
  | zero =>
    intro M4
    exact J_none
  | succ n ih =>
    intro M4
    rw [x_sentence_L23]
    refine J_aload_n (pc := 23) dX1_sentence_23 rfl ?_
    refine J_get (pc := 24) (c := 0) (.int (M4.i 20 51)) rfl in_X1 51 (by decide) q235 rfl (fun h => sh_k1 h 0 rfl) (fun _ _ => rfl) dX1_sentence_24 ?_
    refine J_bipush (pc := 27) 12 dX1_sentence_27 (by decide) ?_
    refine J_jn (P := fun J => ∀ (M5 : PM), T_x_sentence G  M5 66 [some (.ref 20), some (.int c1), none, none] [] (J M5)) (fun M5 => ?_) (fun j1 hj1 => ?_)
    · exact J_sub (A := [some (.ref 20), some (.int c1), none, none]) ⟨rfl, ⟨rfl, trivial⟩⟩ (hk66 M5)
    refine J_icmp_ge (pc := 29) 66 dX1_sentence_29 rfl (fun h => if_pos h) (fun h => if_neg h) (fun _ => ?_) (fun _ => ?_)
    · exact J_sub (A := [some (.ref 20), some (.int c1), none, none]) ⟨rfl, ⟨rfl, trivial⟩⟩ (hj1 M4)
    · refine J_aload_n (pc := 32) dX1_sentence_32 rfl ?_
      refine J_callV (pc := 33) (n := 0) (b := 20) (vs := []) (ci := 0) (fun l => C_x_isDigit l  M4) (lw_V q546 q548 qs11 q116 q549) nmv_X1_isDigit rfl (by omega) (by decide) rfl (fun h => sh_k1 h 0 rfl) rfl (Nat.le_of_ble_eq_true rfl) dX1_sentence_33 (fun v3 M6 => ?_)
      refine J_if_eq (pc := 36) 66 dX1_sentence_36 rfl (fun h => if_pos h) (fun h => if_neg h) (fun _ => ?_) (fun _ => ?_)
      · exact J_sub (A := [some (.ref 20), some (.int c1), none, none]) ⟨rfl, ⟨rfl, trivial⟩⟩ (hj1 M6)
      · refine J_aload_n (pc := 39) dX1_sentence_39 rfl ?_
        refine J_get (pc := 40) (c := 0) (.ref 59) rfl in_X1 49 (by decide) q233 rfl (fun h => sh_k1 h 0 rfl) (fun h _ => fv_ref (Or.inr ⟨_, rfl⟩) (sh_r h 38 rfl)) dX1_sentence_40 ?_
        refine J_aload_n (pc := 43) dX1_sentence_43 rfl ?_
        refine J_get (pc := 44) (c := 0) (.int (M6.i 20 51)) rfl in_X1 51 (by decide) q235 rfl (fun h => sh_k1 h 0 rfl) (fun _ _ => rfl) dX1_sentence_44 ?_
        refine J_aload_n (pc := 47) dX1_sentence_47 rfl ?_
        refine J_iconst (pc := 48) 1 dX1_sentence_48 (by decide) ?_
        refine J_callV (pc := 49) (n := 1) (b := 20) (vs := [.int 1]) (ci := 0) (fun l => C_x_number l 1 M6) (lw_V q542 q544 qs10 q116 q545) nmv_X1_number rfl (by omega) (by decide) rfl (fun h => sh_k1 h 0 rfl) rfl (Nat.le_of_ble_eq_true rfl) dX1_sentence_49 (fun v4 M7 => ?_)
        refine J_ck (fun h1 => ?_)
        refine J_iast (pc := 52) (a := 59) (fun h => sh_a h 39 rfl h1) (fun h => Sh_si h) dX1_sentence_52 ?_
        refine J_ltM (fun M8 => ?_)
        refine J_aload_n (pc := 53) dX1_sentence_53 rfl ?_
        refine J_dup (pc := 54) dX1_sentence_54 rfl ?_
        refine J_get (pc := 55) (c := 0) (.int (M8.i 20 51)) rfl in_X1 51 (by decide) q235 rfl (fun h => sh_k1 h 0 rfl) (fun _ _ => rfl) dX1_sentence_55 ?_
        refine J_iconst (pc := 58) 1 dX1_sentence_58 (by decide) ?_
        refine J_iadd (pc := 59) dX1_sentence_59 ?_
        refine J_put (pc := 60) (a := 20) (v := .int ((M8.i 20 51) + 1)) (M' := M8.si 20 51 ((M8.i 20 51) + 1)) (c := 0) rfl in_X1 tyX1_ok fnX1 51 (by decide) q235 rfl (Or.inl rfl) (fun h => sh_k1 h 0 rfl) (fun _ => rfl) (fun _ => rfl) ⟨⟨rfl, rfl⟩, rfl⟩ (fun _ hb => up2_same hb) (fun _ _ => rfl) (fun _ _ => rfl) (put_i (fun _ _ _ => rfl)) (fun h => Sh_si h) dX1_sentence_60 ?_
        refine J_ltM (fun M9 => ?_)
        refine J_goto (pc := 63) 23 dX1_sentence_63 rfl ?_
        exact J_sub (A := [some (.ref 20), some (.int c1), none, none]) ⟨rfl, ⟨rfl, trivial⟩⟩ (ih M9)

def x_sentence_L123 (c1 : Int32) (c2 : Int32) (k159 : PM → Option (Int32 × PM)) : Nat → Int32 → PM → Option (Int32 × PM)
  | 0, _, _ => none
  | n + 1, v7, M15 =>
    if (M15.i 20 11) ≤ v7 then (k159 M15)
    else (ck c2 14 <|
    bd (x_costFrom v7 c2 c1 M15) fun v8 M16 =>
    ck c2 14 <|
    lt (M16.si 60 (ix c2) (imin (M15.i 60 (ix c2)) v8)) fun M17 =>
    lt (v7 + 1) fun v9 =>
    x_sentence_L123 c1 c2 k159 n v9 M17)

set_option maxHeartbeats 4000000 in
theorem t_x_sentence_L123 (G : JG) (c1 : Int32) (c2 : Int32) (k159 : PM → Option (Int32 × PM)) (hk159 : ∀ Me, T_x_sentence G  Me 159 [some (.ref 20), some (.int c1), some (.int c2), none] [] (k159 Me)) : ∀ (n : Nat) (v7 : Int32) (M15 : PM), T_x_sentence G  M15 123 [some (.ref 20), some (.int c1), some (.int c2), some (.int v7)] [] (x_sentence_L123 c1 c2 k159 n v7 M15) := by
  intro n
  induction n with
  | zero =>
    intro v7 M15
    exact J_none
  | succ n ih =>
    intro v7 M15
    rw [x_sentence_L123]
    refine J_iload_n (pc := 123) dX1_sentence_123 rfl ?_
    refine J_aload_n (pc := 124) dX1_sentence_124 rfl ?_
    refine J_get (pc := 125) (c := 0) (.int (M15.i 20 11)) rfl in_X1 11 (by decide) q188 rfl (fun h => sh_k1 h 0 rfl) (fun _ _ => rfl) dX1_sentence_125 ?_
    refine J_icmp_ge (pc := 128) 159 dX1_sentence_128 rfl (fun h => if_pos h) (fun h => if_neg h) (fun _ => ?_) (fun _ => ?_)
    · exact J_sub (A := [some (.ref 20), some (.int c1), some (.int c2), none]) ⟨rfl, ⟨rfl, ⟨rfl, trivial⟩⟩⟩ (hk159 M15)
    · refine J_aload_n (pc := 131) dX1_sentence_131 rfl ?_
      refine J_get (pc := 132) (c := 0) (.ref 60) rfl in_X1 50 (by decide) q234 rfl (fun h => sh_k1 h 0 rfl) (fun h _ => fv_ref (Or.inr ⟨_, rfl⟩) (sh_r h 39 rfl)) dX1_sentence_132 ?_
      refine J_iload_n (pc := 135) dX1_sentence_135 rfl ?_
      refine J_aload_n (pc := 136) dX1_sentence_136 rfl ?_
      refine J_get (pc := 137) (c := 0) (.ref 60) rfl in_X1 50 (by decide) q234 rfl (fun h => sh_k1 h 0 rfl) (fun h _ => fv_ref (Or.inr ⟨_, rfl⟩) (sh_r h 39 rfl)) dX1_sentence_137 ?_
      refine J_iload_n (pc := 140) dX1_sentence_140 rfl ?_
      refine J_ck (fun h4 => ?_)
      refine J_iald (pc := 141) (a := 60) (fun h => sh_a h 40 rfl h4) dX1_sentence_141 ?_
      refine J_aload_n (pc := 142) dX1_sentence_142 rfl ?_
      refine J_iload_n (pc := 143) dX1_sentence_143 rfl ?_
      refine J_iload_n (pc := 144) dX1_sentence_144 rfl ?_
      refine J_iload_n (pc := 145) dX1_sentence_145 rfl ?_
      refine J_callV (pc := 146) (n := 3) (b := 20) (vs := [.int v7, .int c2, .int c1]) (ci := 0) (fun l => C_x_costFrom l v7 c2 c1 M15) (lw_V q821 q823 qs37 q116 q824) nmv_X1_costFrom rfl (by omega) (by decide) rfl (fun h => sh_k1 h 0 rfl) rfl (Nat.le_of_ble_eq_true rfl) dX1_sentence_146 (fun v8 M16 => ?_)
      refine J_min (pc := 149) (by omega) q409 q410 q119 q411 (Nat.le_of_ble_eq_true rfl) dX1_sentence_149 ?_
      refine J_ck (fun h5 => ?_)
      refine J_iast (pc := 152) (a := 60) (fun h => sh_a h 40 rfl h5) (fun h => Sh_si h) dX1_sentence_152 ?_
      refine J_ltM (fun M17 => ?_)
      refine J_iincL (pc := 153) (n := 1) (by decide) dX1_sentence_153 rfl (by decide) (fun v9 => ?_)
      refine J_goto (pc := 156) 123 dX1_sentence_156 rfl ?_
      exact J_sub (A := [some (.ref 20), some (.int c1), some (.int c2), some (.int v9)]) ⟨rfl, ⟨rfl, ⟨rfl, ⟨rfl, trivial⟩⟩⟩⟩ (ih v9 M17)

def x_sentence_L108 (c1 : Int32) (k165 : PM → Option (Int32 × PM)) : Nat → Int32 → PM → Option (Int32 × PM)
  | 0, _, _ => none
  | n + 1, v6, M13 =>
    if v6 < 0 then (k165 M13)
    else (ck v6 14 <|
    lt (M13.si 60 (ix v6) 1000000000) fun M14 =>
    x_sentence_L123 c1 v6 (fun (M18 : PM) =>
    lt (v6 + (-1)) fun v10 =>
    x_sentence_L108 c1 k165 n v10 M18) FU 0 M14)

set_option maxHeartbeats 4000000 in
theorem t_x_sentence_L108 (G : JG) (c1 : Int32) (k165 : PM → Option (Int32 × PM)) (hk165 : ∀ Me, T_x_sentence G  Me 165 [some (.ref 20), some (.int c1), none, none] [] (k165 Me)) : ∀ (n : Nat) (v6 : Int32) (M13 : PM), T_x_sentence G  M13 108 [some (.ref 20), some (.int c1), some (.int v6), none] [] (x_sentence_L108 c1 k165 n v6 M13) := by
  intro n
  induction n with
  | zero =>
    intro v6 M13
    exact J_none
  | succ n ih =>
    intro v6 M13
    rw [x_sentence_L108]
    refine J_iload_n (pc := 108) dX1_sentence_108 rfl ?_
    refine J_if_lt (pc := 109) 165 dX1_sentence_109 rfl (fun h => if_pos h) (fun h => if_neg h) (fun _ => ?_) (fun _ => ?_)
    · exact J_sub (A := [some (.ref 20), some (.int c1), none, none]) ⟨rfl, ⟨rfl, trivial⟩⟩ (hk165 M13)
    · refine J_aload_n (pc := 112) dX1_sentence_112 rfl ?_
      refine J_get (pc := 113) (c := 0) (.ref 60) rfl in_X1 50 (by decide) q234 rfl (fun h => sh_k1 h 0 rfl) (fun h _ => fv_ref (Or.inr ⟨_, rfl⟩) (sh_r h 39 rfl)) dX1_sentence_113 ?_
      refine J_iload_n (pc := 116) dX1_sentence_116 rfl ?_
      refine J_ldcw (pc := 117) 1000000000 q799 dX1_sentence_117 ?_
      refine J_ck (fun h3 => ?_)
      refine J_iast (pc := 120) (a := 60) (fun h => sh_a h 40 rfl h3) (fun h => Sh_si h) dX1_sentence_120 ?_
      refine J_ltM (fun M14 => ?_)
      refine J_iconst (pc := 121) 0 dX1_sentence_121 (by decide) ?_
      refine J_istore_n (pc := 122) dX1_sentence_122 (by decide) ?_
      refine J_sub (A := [some (.ref 20), some (.int c1), some (.int v6), some (.int 0)]) ⟨rfl, ⟨rfl, ⟨rfl, ⟨rfl, trivial⟩⟩⟩⟩ (t_x_sentence_L123 G c1 v6 _ ?_ FU 0 M14)
      · intro M18
        refine J_iincL (pc := 159) (n := (-1)) (by decide) dX1_sentence_159 rfl (by decide) (fun v10 => ?_)
        refine J_goto (pc := 162) 108 dX1_sentence_162 rfl ?_
        exact J_sub (A := [some (.ref 20), some (.int c1), some (.int v10), none]) ⟨rfl, ⟨rfl, ⟨rfl, trivial⟩⟩⟩ (ih v10 M18)

def x_sentence_L198 (c1 : Int32) (c2 : Int32) (k220 : Int32 → PM → Option (Int32 × PM)) : Nat → Int32 → PM → Option (Int32 × PM)
  | 0, _, _ => none
  | n + 1, v12, M22 =>
    bd (x_costFrom v12 c2 c1 M22) fun v13 M23 =>
    ck c2 14 <|
    if v13 = (M23.i 60 (ix c2)) then (k220 v12 M23)
    else (lt (v12 + 1) fun v14 =>
    x_sentence_L198 c1 c2 k220 n v14 M23)

set_option maxHeartbeats 4000000 in
theorem t_x_sentence_L198 (G : JG) (c1 : Int32) (c2 : Int32) (k220 : Int32 → PM → Option (Int32 × PM)) (hk220 : ∀ z3 Me, T_x_sentence G  Me 220 [some (.ref 20), some (.int c1), some (.int c2), some (.int z3)] [] (k220 z3 Me)) : ∀ (n : Nat) (v12 : Int32) (M22 : PM), T_x_sentence G  M22 198 [some (.ref 20), some (.int c1), some (.int c2), some (.int v12)] [] (x_sentence_L198 c1 c2 k220 n v12 M22) := by
  intro n
  induction n with
  | zero =>
    intro v12 M22
    exact J_none
  | succ n ih =>
    intro v12 M22
    rw [x_sentence_L198]
    refine J_aload_n (pc := 198) dX1_sentence_198 rfl ?_
    refine J_iload_n (pc := 199) dX1_sentence_199 rfl ?_
    refine J_iload_n (pc := 200) dX1_sentence_200 rfl ?_
    refine J_iload_n (pc := 201) dX1_sentence_201 rfl ?_
    refine J_callV (pc := 202) (n := 3) (b := 20) (vs := [.int v12, .int c2, .int c1]) (ci := 0) (fun l => C_x_costFrom l v12 c2 c1 M22) (lw_V q821 q823 qs37 q116 q824) nmv_X1_costFrom rfl (by omega) (by decide) rfl (fun h => sh_k1 h 0 rfl) rfl (Nat.le_of_ble_eq_true rfl) dX1_sentence_202 (fun v13 M23 => ?_)
    refine J_aload_n (pc := 205) dX1_sentence_205 rfl ?_
    refine J_get (pc := 206) (c := 0) (.ref 60) rfl in_X1 50 (by decide) q234 rfl (fun h => sh_k1 h 0 rfl) (fun h _ => fv_ref (Or.inr ⟨_, rfl⟩) (sh_r h 39 rfl)) dX1_sentence_206 ?_
    refine J_iload_n (pc := 209) dX1_sentence_209 rfl ?_
    refine J_ck (fun h7 => ?_)
    refine J_iald (pc := 210) (a := 60) (fun h => sh_a h 40 rfl h7) dX1_sentence_210 ?_
    refine J_icmp_eq (pc := 211) 220 dX1_sentence_211 rfl (fun h => if_pos h) (fun h => if_neg h) (fun _ => ?_) (fun _ => ?_)
    · exact J_sub (A := [some (.ref 20), some (.int c1), some (.int c2), some (.int v12)]) ⟨rfl, ⟨rfl, ⟨rfl, ⟨rfl, trivial⟩⟩⟩⟩ (hk220 v12 M23)
    · refine J_iincL (pc := 214) (n := 1) (by decide) dX1_sentence_214 rfl (by decide) (fun v14 => ?_)
      refine J_goto (pc := 217) 198 dX1_sentence_217 rfl ?_
      exact J_sub (A := [some (.ref 20), some (.int c1), some (.int c2), some (.int v14)]) ⟨rfl, ⟨rfl, ⟨rfl, ⟨rfl, trivial⟩⟩⟩⟩ (ih v14 M23)

def x_sentence_L188 (c1 : Int32) (k238 : PM → Option (Int32 × PM)) : Nat → Int32 → PM → Option (Int32 × PM)
  | 0, _, _ => none
  | n + 1, v11, M21 =>
    if (M21.i 20 51) ≤ v11 then (k238 M21)
    else (x_sentence_L198 c1 v11 (fun (v15 : Int32) (M24 : PM) =>
    bd (x_tells (Int32.toInt64 v15) M24) fun _ M25 =>
    bd (x_tellsFrom v15 v11 M25) fun v16 M26 =>
    lt (v11 + v16) fun v17 =>
    x_sentence_L188 c1 k238 n v17 M26) FU 0 M21)

set_option maxHeartbeats 4000000 in
theorem t_x_sentence_L188 (G : JG) (c1 : Int32) (k238 : PM → Option (Int32 × PM)) (hk238 : ∀ Me, T_x_sentence G  Me 238 [some (.ref 20), none, none, none] [] (k238 Me)) : ∀ (n : Nat) (v11 : Int32) (M21 : PM), T_x_sentence G  M21 188 [some (.ref 20), some (.int c1), some (.int v11), none] [] (x_sentence_L188 c1 k238 n v11 M21) := by
  intro n
  induction n with
  | zero =>
    intro v11 M21
    exact J_none
  | succ n ih =>
    intro v11 M21
    rw [x_sentence_L188]
    refine J_iload_n (pc := 188) dX1_sentence_188 rfl ?_
    refine J_aload_n (pc := 189) dX1_sentence_189 rfl ?_
    refine J_get (pc := 190) (c := 0) (.int (M21.i 20 51)) rfl in_X1 51 (by decide) q235 rfl (fun h => sh_k1 h 0 rfl) (fun _ _ => rfl) dX1_sentence_190 ?_
    refine J_icmp_ge (pc := 193) 238 dX1_sentence_193 rfl (fun h => if_pos h) (fun h => if_neg h) (fun _ => ?_) (fun _ => ?_)
    · exact J_sub (A := [some (.ref 20), none, none, none]) ⟨rfl, trivial⟩ (hk238 M21)
    · refine J_iconst (pc := 196) 0 dX1_sentence_196 (by decide) ?_
      refine J_istore_n (pc := 197) dX1_sentence_197 (by decide) ?_
      refine J_sub (A := [some (.ref 20), some (.int c1), some (.int v11), some (.int 0)]) ⟨rfl, ⟨rfl, ⟨rfl, ⟨rfl, trivial⟩⟩⟩⟩ (t_x_sentence_L198 G c1 v11 _ ?_ FU 0 M21)
      · intro v15 M24
        refine J_aload_n (pc := 220) dX1_sentence_220 rfl ?_
        refine J_iload_n (pc := 221) dX1_sentence_221 rfl ?_
        refine J_i2l (pc := 222) dX1_sentence_222 ?_
        refine J_callV (pc := 223) (n := 1) (b := 20) (vs := [.long (Int32.toInt64 v15)]) (ci := 0) (fun l => C_x_tells l (Int32.toInt64 v15) M24) (lw_V q708 q710 qs20 q116 q711) nmv_X1_tells rfl (by omega) (by decide) rfl (fun h => sh_k1 h 0 rfl) rfl (Nat.le_of_ble_eq_true rfl) dX1_sentence_223 (fun _ M25 => ?_)
        refine J_iload_n (pc := 226) dX1_sentence_226 rfl ?_
        refine J_aload_n (pc := 227) dX1_sentence_227 rfl ?_
        refine J_iload_n (pc := 228) dX1_sentence_228 rfl ?_
        refine J_iload_n (pc := 229) dX1_sentence_229 rfl ?_
        refine J_callV (pc := 230) (n := 2) (b := 20) (vs := [.int v15, .int v11]) (ci := 0) (fun l => C_x_tellsFrom l v15 v11 M25) (lw_V q825 q827 qs38 q116 q828) nmv_X1_tellsFrom rfl (by omega) (by decide) rfl (fun h => sh_k1 h 0 rfl) rfl (Nat.le_of_ble_eq_true rfl) dX1_sentence_230 (fun v16 M26 => ?_)
        refine J_iadd (pc := 233) dX1_sentence_233 ?_
        refine J_lt (β := Int32) (v := (v11 + v16)) (L := fun _ => _) (S := fun v17 => [.int v17]) (fun v17 => ?_)
        refine J_istore_n (pc := 234) dX1_sentence_234 (by decide) ?_
        refine J_goto (pc := 235) 188 dX1_sentence_235 rfl ?_
        exact J_sub (A := [some (.ref 20), some (.int c1), some (.int v17), none]) ⟨rfl, ⟨rfl, ⟨rfl, trivial⟩⟩⟩ (ih v17 M26)

def x_sentence (p1 : Int32) (M : PM) : Option (Int32 × PM) :=
    bd (x_begins 80 M) fun v1 M1 =>
    bd (x_isStation p1 M1) fun v2 M2 =>
    if v2 = 0 then (some ((-100), M2))
    else (lt (M2.si 20 51 0) fun M3 =>
    x_sentence_L23 p1 (fun (M10 : PM) =>
    jn (fun (M11 : PM) =>
    some (((-1) - (M11.i 20 17)), M11)) fun j2 =>
    if (M10.i 20 51) = 0 then (j2 M10)
    else (if (M10.i 20 18) ≤ (M10.i 20 17) then (ck (M10.i 20 51) 14 <|
    lt (M10.si 60 (ix (M10.i 20 51)) 0) fun M12 =>
    lt ((M12.i 20 51) - 1) fun v5 =>
    x_sentence_L108 p1 (fun (M19 : PM) =>
    ck 0 14 <|
    if (M19.i 60 (ix 0)) < 1000000000 then (lt (M19.si 20 67 0) fun M20 =>
    x_sentence_L188 p1 (fun (M27 : PM) =>
    ck 0 14 <|
    some ((M27.i 60 (ix 0)), M27)) FU 0 M20)
    else (some ((-200), M19))) FU v5 M12)
    else (j2 M10))) FU M3)

set_option maxHeartbeats 4000000 in
theorem t_x_sentence (G : JG) (p1 : Int32) (M : PM) : T_x_sentence G  M 0 (ent [.ref 20, .int p1] 4) [] (x_sentence p1 M) := by
  unfold x_sentence
  refine J_aload_n (pc := 0) dX1_sentence_0 rfl ?_
  refine J_bipush (pc := 1) 80 dX1_sentence_1 (by decide) ?_
  refine J_callV (pc := 3) (n := 1) (b := 20) (vs := [.int 80]) (ci := 0) (fun l => C_x_begins l 80 M) (lw_V q405 q407 qs0 q116 q408) nmv_X1_begins rfl (by omega) (by decide) rfl (fun h => sh_k1 h 0 rfl) rfl (Nat.le_of_ble_eq_true rfl) dX1_sentence_3 (fun v1 M1 => ?_)
  refine J_pop (pc := 6) dX1_sentence_6 rfl ?_
  refine J_aload_n (pc := 7) dX1_sentence_7 rfl ?_
  refine J_iload_n (pc := 8) dX1_sentence_8 rfl ?_
  refine J_callV (pc := 9) (n := 1) (b := 20) (vs := [.int p1]) (ci := 0) (fun l => C_x_isStation l p1 M1) (lw_V q678 q680 qs17 q116 q681) nmv_X1_isStation rfl (by omega) (by decide) rfl (fun h => sh_k1 h 0 rfl) rfl (Nat.le_of_ble_eq_true rfl) dX1_sentence_9 (fun v2 M2 => ?_)
  refine J_if_ne (pc := 12) 18 dX1_sentence_12 rfl (fun h => if_neg h) (fun h => if_pos h) (fun _ => ?_) (fun _ => ?_)
  · refine J_aload_n (pc := 18) dX1_sentence_18 rfl ?_
    refine J_iconst (pc := 19) 0 dX1_sentence_19 (by decide) ?_
    refine J_put (pc := 20) (a := 20) (v := .int 0) (M' := M2.si 20 51 0) (c := 0) rfl in_X1 tyX1_ok fnX1 51 (by decide) q235 rfl (Or.inl rfl) (fun h => sh_k1 h 0 rfl) (fun _ => rfl) (fun _ => rfl) ⟨⟨rfl, rfl⟩, rfl⟩ (fun _ hb => up2_same hb) (fun _ _ => rfl) (fun _ _ => rfl) (put_i (fun _ _ _ => rfl)) (fun h => Sh_si h) dX1_sentence_20 ?_
    refine J_ltM (fun M3 => ?_)
    refine J_sub (A := [some (.ref 20), some (.int p1), none, none]) ⟨rfl, ⟨rfl, trivial⟩⟩ (t_x_sentence_L23 G p1 _ ?_ FU M3)
    · intro M10
      refine J_aload_n (pc := 66) dX1_sentence_66 rfl ?_
      refine J_get (pc := 67) (c := 0) (.int (M10.i 20 51)) rfl in_X1 51 (by decide) q235 rfl (fun h => sh_k1 h 0 rfl) (fun _ _ => rfl) dX1_sentence_67 ?_
      refine J_jn (P := fun J => ∀ (M11 : PM), T_x_sentence G  M11 84 [some (.ref 20), none, none, none] [] (J M11)) (fun M11 => ?_) (fun j2 hj2 => ?_)
      · refine J_iconst (pc := 84) (-1) dX1_sentence_84 (by decide) ?_
        refine J_aload_n (pc := 85) dX1_sentence_85 rfl ?_
        refine J_get (pc := 86) (c := 0) (.int (M11.i 20 17)) rfl in_X1 17 (by decide) q194 rfl (fun h => sh_k1 h 0 rfl) (fun _ _ => rfl) dX1_sentence_86 ?_
        refine J_isub (pc := 89) dX1_sentence_89 ?_
        exact J_iret (pc := 90) dX1_sentence_90
      refine J_if_eq (pc := 70) 84 dX1_sentence_70 rfl (fun h => if_pos h) (fun h => if_neg h) (fun _ => ?_) (fun _ => ?_)
      · exact J_sub (A := [some (.ref 20), none, none, none]) ⟨rfl, trivial⟩ (hj2 M10)
      · refine J_aload_n (pc := 73) dX1_sentence_73 rfl ?_
        refine J_get (pc := 74) (c := 0) (.int (M10.i 20 17)) rfl in_X1 17 (by decide) q194 rfl (fun h => sh_k1 h 0 rfl) (fun _ _ => rfl) dX1_sentence_74 ?_
        refine J_aload_n (pc := 77) dX1_sentence_77 rfl ?_
        refine J_get (pc := 78) (c := 0) (.int (M10.i 20 18)) rfl in_X1 18 (by decide) q195 rfl (fun h => sh_k1 h 0 rfl) (fun _ _ => rfl) dX1_sentence_78 ?_
        refine J_icmp_ge (pc := 81) 91 dX1_sentence_81 rfl (fun h => if_pos h) (fun h => if_neg h) (fun _ => ?_) (fun _ => ?_)
        · refine J_aload_n (pc := 91) dX1_sentence_91 rfl ?_
          refine J_get (pc := 92) (c := 0) (.ref 60) rfl in_X1 50 (by decide) q234 rfl (fun h => sh_k1 h 0 rfl) (fun h _ => fv_ref (Or.inr ⟨_, rfl⟩) (sh_r h 39 rfl)) dX1_sentence_92 ?_
          refine J_aload_n (pc := 95) dX1_sentence_95 rfl ?_
          refine J_get (pc := 96) (c := 0) (.int (M10.i 20 51)) rfl in_X1 51 (by decide) q235 rfl (fun h => sh_k1 h 0 rfl) (fun _ _ => rfl) dX1_sentence_96 ?_
          refine J_iconst (pc := 99) 0 dX1_sentence_99 (by decide) ?_
          refine J_ck (fun h2 => ?_)
          refine J_iast (pc := 100) (a := 60) (fun h => sh_a h 40 rfl h2) (fun h => Sh_si h) dX1_sentence_100 ?_
          refine J_ltM (fun M12 => ?_)
          refine J_aload_n (pc := 101) dX1_sentence_101 rfl ?_
          refine J_get (pc := 102) (c := 0) (.int (M12.i 20 51)) rfl in_X1 51 (by decide) q235 rfl (fun h => sh_k1 h 0 rfl) (fun _ _ => rfl) dX1_sentence_102 ?_
          refine J_iconst (pc := 105) 1 dX1_sentence_105 (by decide) ?_
          refine J_isub (pc := 106) dX1_sentence_106 ?_
          refine J_lt (β := Int32) (v := ((M12.i 20 51) - 1)) (L := fun _ => _) (S := fun v5 => [.int v5]) (fun v5 => ?_)
          refine J_istore_n (pc := 107) dX1_sentence_107 (by decide) ?_
          refine J_sub (A := [some (.ref 20), some (.int p1), some (.int v5), none]) ⟨rfl, ⟨rfl, ⟨rfl, trivial⟩⟩⟩ (t_x_sentence_L108 G p1 _ ?_ FU v5 M12)
          · intro M19
            refine J_aload_n (pc := 165) dX1_sentence_165 rfl ?_
            refine J_get (pc := 166) (c := 0) (.ref 60) rfl in_X1 50 (by decide) q234 rfl (fun h => sh_k1 h 0 rfl) (fun h _ => fv_ref (Or.inr ⟨_, rfl⟩) (sh_r h 39 rfl)) dX1_sentence_166 ?_
            refine J_iconst (pc := 169) 0 dX1_sentence_169 (by decide) ?_
            refine J_ck (fun h6 => ?_)
            refine J_iald (pc := 170) (a := 60) (fun h => sh_a h 40 rfl h6) dX1_sentence_170 ?_
            refine J_ldcw (pc := 171) 1000000000 q799 dX1_sentence_171 ?_
            refine J_icmp_lt (pc := 174) 181 dX1_sentence_174 rfl (fun h => if_pos h) (fun h => if_neg h) (fun _ => ?_) (fun _ => ?_)
            · refine J_aload_n (pc := 181) dX1_sentence_181 rfl ?_
              refine J_iconst (pc := 182) 0 dX1_sentence_182 (by decide) ?_
              refine J_put (pc := 183) (a := 20) (v := .int 0) (M' := M19.si 20 67 0) (c := 0) rfl in_X1 tyX1_ok fnX1 67 (by decide) q251 rfl (Or.inl rfl) (fun h => sh_k1 h 0 rfl) (fun _ => rfl) (fun _ => rfl) ⟨⟨rfl, rfl⟩, rfl⟩ (fun _ hb => up2_same hb) (fun _ _ => rfl) (fun _ _ => rfl) (put_i (fun _ _ _ => rfl)) (fun h => Sh_si h) dX1_sentence_183 ?_
              refine J_ltM (fun M20 => ?_)
              refine J_iconst (pc := 186) 0 dX1_sentence_186 (by decide) ?_
              refine J_istore_n (pc := 187) dX1_sentence_187 (by decide) ?_
              refine J_sub (A := [some (.ref 20), some (.int p1), some (.int 0), none]) ⟨rfl, ⟨rfl, ⟨rfl, trivial⟩⟩⟩ (t_x_sentence_L188 G p1 _ ?_ FU 0 M20)
              · intro M27
                refine J_aload_n (pc := 238) dX1_sentence_238 rfl ?_
                refine J_get (pc := 239) (c := 0) (.ref 60) rfl in_X1 50 (by decide) q234 rfl (fun h => sh_k1 h 0 rfl) (fun h _ => fv_ref (Or.inr ⟨_, rfl⟩) (sh_r h 39 rfl)) dX1_sentence_239 ?_
                refine J_iconst (pc := 242) 0 dX1_sentence_242 (by decide) ?_
                refine J_ck (fun h8 => ?_)
                refine J_iald (pc := 243) (a := 60) (fun h => sh_a h 40 rfl h8) dX1_sentence_243 ?_
                exact J_iret (pc := 244) dX1_sentence_244
            · refine J_sipush (pc := 177) (-200) dX1_sentence_177 (by decide) ?_
              exact J_iret (pc := 180) dX1_sentence_180
        · exact J_sub (A := [some (.ref 20), none, none, none]) ⟨rfl, trivial⟩ (hj2 M10)
  · refine J_bipush (pc := 15) (-100) dX1_sentence_15 (by decide) ?_
    exact J_iret (pc := 17) dX1_sentence_17

theorem C_x_sentence (l : Launch) (p1 : Int32) (M : PM) : Ctr l Sh yX1_sentence cX1_sentence 4 (some .int) 144 rvI [.ref 20, .int p1] M (x_sentence p1 M) := Ctr.of (by decide +kernel) (Nat.le_of_ble_eq_true rfl) (fun G => t_x_sentence G p1 M)

