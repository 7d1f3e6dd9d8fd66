set_option maxRecDepth 100000
abbrev T_ls_init (G : JG) (M : PM) (pc : Nat) (L : List (Option Value)) (S : List Value) (o : Option (Unit × PM)) : Prop := JJ G cX5_init yX5_init 3 2 none Sh (finR G Sh rvU) M pc L S o
def ls_init (p0 : Nat) (p2 : Nat) (M : PM) : Option (Unit × PM) :=
    ckk M p0 3 <|
    ckb (105 ≤ p0) <|
    lt (M.sr p0 2 (some 20)) fun M1 =>
    bd (nd_init p0 M1) fun _ M2 =>
    ckk M2 p0 3 <|
    ckb (105 ≤ p0) <|
    lt (M2.sr p0 1 (some p2)) fun M3 =>
    some ((), M3)

set_option maxHeartbeats 4000000 in
theorem t_ls_init (G : JG) (p0 : Nat) (p2 : Nat) (M : PM) : T_ls_init G  M 0 (ent [.ref p0, .ref 20, .ref p2] 3) [] (ls_init p0 p2 M) := by
  unfold ls_init
  refine J_aload_n (pc := 0) dX5_init_0 rfl ?_
  refine J_aload_n (pc := 1) dX5_init_1 rfl ?_
  refine J_ckk (fun h1 => ?_)
  refine J_ckb (fun h2 => ?_)
  refine J_put (pc := 2) (a := p0) (v := va_rf (some 20)) (M' := M.sr p0 2 (some 20)) (c := 3) rfl in_X5 tyX5_ok fnX5 2 (by decide) q592 rfl (Or.inr ⟨rfl, rfl, rfl⟩) (fun _ => h1) (fun ad => (nrw_r _ (Or.inl ⟨_, rfl⟩) (some 20) ad).1) (fun ad => (nrw_r _ (Or.inl ⟨_, rfl⟩) (some 20) ad).2) ⟨⟨rfl, rfl⟩, rfl⟩ (fun _ _ => rfl) (fun _ _ => rfl) (fun _ hb => up2_same hb) (put_r (fun _ _ _ => rfl)) (fun h => Sh_srN h h2) dX5_init_2 ?_
  refine J_ltM (fun M1 => ?_)
  refine J_aload_n (pc := 5) dX5_init_5 rfl ?_
  refine J_aload_n (pc := 6) dX5_init_6 rfl ?_
  refine J_callIN (host := "TollOnVowels") (pc := 7) (n := 1) (b := p0) (vs := [.ref 20]) (fun l => C_nd_init l p0 M1) (lw_meth q589) q126 (by decide +kernel) q588 rfl nmh_X4_init rfl (by omega) (by decide) rfl (Nat.le_of_ble_eq_true rfl) dX5_init_7 (fun _u M2 => ?_)
  refine J_aload_n (pc := 10) dX5_init_10 rfl ?_
  refine J_aload_n (pc := 11) dX5_init_11 rfl ?_
  refine J_ckk (fun h3 => ?_)
  refine J_ckb (fun h4 => ?_)
  refine J_put (pc := 12) (a := p0) (v := va_rf (some p2)) (M' := M2.sr p0 1 (some p2)) (c := 3) rfl in_X5 tyX5_ok fnX5 1 (by decide) q591 rfl (Or.inr ⟨rfl, rfl, rfl⟩) (fun _ => h3) (fun ad => (nrw_r _ (Or.inl ⟨_, rfl⟩) (some p2) ad).1) (fun ad => (nrw_r _ (Or.inl ⟨_, rfl⟩) (some p2) ad).2) ⟨⟨rfl, rfl⟩, rfl⟩ (fun _ _ => rfl) (fun _ _ => rfl) (fun _ hb => up2_same hb) (put_r (fun _ _ _ => rfl)) (fun h => Sh_srN h h4) dX5_init_12 ?_
  refine J_ltM (fun M3 => ?_)
  exact J_ret (pc := 15) dX5_init_15

theorem C_ls_init (l : Launch) (p0 : Nat) (p2 : Nat) (M : PM) : Ctr l Sh yX5_init cX5_init 3 none 2 rvU [.ref p0, .ref 20, .ref p2] M (ls_init p0 p2 M) := Ctr.of (by decide +kernel) (Nat.le_of_ble_eq_true rfl) (fun G => t_ls_init G p0 p2 M)

abbrev T_nu_init (G : JG) (M : PM) (pc : Nat) (L : List (Option Value)) (S : List Value) (o : Option (Unit × PM)) : Prop := JJ G cX6_init yX6_init 3 2 none Sh (finR G Sh rvU) M pc L S o
def nu_init (p0 : Nat) (p2 : Int32) (M : PM) : Option (Unit × PM) :=
    ckk M p0 4 <|
    ckb (105 ≤ p0) <|
    lt (M.sr p0 2 (some 20)) fun M1 =>
    bd (nd_init p0 M1) fun _ M2 =>
    ckk M2 p0 4 <|
    lt (M2.si p0 1 p2) fun M3 =>
    some ((), M3)

set_option maxHeartbeats 4000000 in
theorem t_nu_init (G : JG) (p0 : Nat) (p2 : Int32) (M : PM) : T_nu_init G  M 0 (ent [.ref p0, .ref 20, .int p2] 3) [] (nu_init p0 p2 M) := by
  unfold nu_init
  refine J_aload_n (pc := 0) dX6_init_0 rfl ?_
  refine J_aload_n (pc := 1) dX6_init_1 rfl ?_
  refine J_ckk (fun h1 => ?_)
  refine J_ckb (fun h2 => ?_)
  refine J_put (pc := 2) (a := p0) (v := va_rf (some 20)) (M' := M.sr p0 2 (some 20)) (c := 4) rfl in_X6 tyX6_ok fnX6 2 (by decide) q608 rfl (Or.inr ⟨rfl, rfl, rfl⟩) (fun _ => h1) (fun ad => (nrw_r _ (Or.inl ⟨_, rfl⟩) (some 20) ad).1) (fun ad => (nrw_r _ (Or.inl ⟨_, rfl⟩) (some 20) ad).2) ⟨⟨rfl, rfl⟩, rfl⟩ (fun _ _ => rfl) (fun _ _ => rfl) (fun _ hb => up2_same hb) (put_r (fun _ _ _ => rfl)) (fun h => Sh_srN h h2) dX6_init_2 ?_
  refine J_ltM (fun M1 => ?_)
  refine J_aload_n (pc := 5) dX6_init_5 rfl ?_
  refine J_aload_n (pc := 6) dX6_init_6 rfl ?_
  refine J_callIN (host := "TollOnVowels") (pc := 7) (n := 1) (b := p0) (vs := [.ref 20]) (fun l => C_nd_init l p0 M1) (lw_meth q589) q126 (by decide +kernel) q588 rfl nmh_X4_init rfl (by omega) (by decide) rfl (Nat.le_of_ble_eq_true rfl) dX6_init_7 (fun _u M2 => ?_)
  refine J_aload_n (pc := 10) dX6_init_10 rfl ?_
  refine J_iload_n (pc := 11) dX6_init_11 rfl ?_
  refine J_ckk (fun h3 => ?_)
  refine J_put (pc := 12) (a := p0) (v := .int p2) (M' := M2.si p0 1 p2) (c := 4) rfl in_X6 tyX6_ok fnX6 1 (by decide) q607 rfl (Or.inr ⟨rfl, rfl, rfl⟩) (fun _ => h3) (fun _ => rfl) (fun _ => rfl) ⟨⟨rfl, rfl⟩, rfl⟩ (fun _ hb => up2_same hb) (fun _ _ => rfl) (fun _ _ => rfl) (put_i (fun _ _ _ => rfl)) (fun h => Sh_si h) dX6_init_12 ?_
  refine J_ltM (fun M3 => ?_)
  exact J_ret (pc := 15) dX6_init_15

theorem C_nu_init (l : Launch) (p0 : Nat) (p2 : Int32) (M : PM) : Ctr l Sh yX6_init cX6_init 3 none 2 rvU [.ref p0, .ref 20, .int p2] M (nu_init p0 p2 M) := Ctr.of (by decide +kernel) (Nat.le_of_ble_eq_true rfl) (fun G => t_nu_init G p0 p2 M)

abbrev T_sg_init (G : JG) (M : PM) (pc : Nat) (L : List (Option Value)) (S : List Value) (o : Option (Unit × PM)) : Prop := JJ G cX7_init yX7_init 3 2 none Sh (finR G Sh rvU) M pc L S o
def sg_init (p0 : Nat) (p2 : Int32) (M : PM) : Option (Unit × PM) :=
    ckk M p0 5 <|
    ckb (105 ≤ p0) <|
    lt (M.sr p0 2 (some 20)) fun M1 =>
    bd (nd_init p0 M1) fun _ M2 =>
    ckk M2 p0 5 <|
    lt (M2.si p0 1 p2) fun M3 =>
    some ((), M3)

set_option maxHeartbeats 4000000 in
theorem t_sg_init (G : JG) (p0 : Nat) (p2 : Int32) (M : PM) : T_sg_init G  M 0 (ent [.ref p0, .ref 20, .int p2] 3) [] (sg_init p0 p2 M) := by
  unfold sg_init
  refine J_aload_n (pc := 0) dX7_init_0 rfl ?_
  refine J_aload_n (pc := 1) dX7_init_1 rfl ?_
  refine J_ckk (fun h1 => ?_)
  refine J_ckb (fun h2 => ?_)
  refine J_put (pc := 2) (a := p0) (v := va_rf (some 20)) (M' := M.sr p0 2 (some 20)) (c := 5) rfl in_X7 tyX7_ok fnX7 2 (by decide) q623 rfl (Or.inr ⟨rfl, rfl, rfl⟩) (fun _ => h1) (fun ad => (nrw_r _ (Or.inl ⟨_, rfl⟩) (some 20) ad).1) (fun ad => (nrw_r _ (Or.inl ⟨_, rfl⟩) (some 20) ad).2) ⟨⟨rfl, rfl⟩, rfl⟩ (fun _ _ => rfl) (fun _ _ => rfl) (fun _ hb => up2_same hb) (put_r (fun _ _ _ => rfl)) (fun h => Sh_srN h h2) dX7_init_2 ?_
  refine J_ltM (fun M1 => ?_)
  refine J_aload_n (pc := 5) dX7_init_5 rfl ?_
  refine J_aload_n (pc := 6) dX7_init_6 rfl ?_
  refine J_callIN (host := "TollOnVowels") (pc := 7) (n := 1) (b := p0) (vs := [.ref 20]) (fun l => C_nd_init l p0 M1) (lw_meth q589) q126 (by decide +kernel) q588 rfl nmh_X4_init rfl (by omega) (by decide) rfl (Nat.le_of_ble_eq_true rfl) dX7_init_7 (fun _u M2 => ?_)
  refine J_aload_n (pc := 10) dX7_init_10 rfl ?_
  refine J_iload_n (pc := 11) dX7_init_11 rfl ?_
  refine J_ckk (fun h3 => ?_)
  refine J_put (pc := 12) (a := p0) (v := .int p2) (M' := M2.si p0 1 p2) (c := 5) rfl in_X7 tyX7_ok fnX7 1 (by decide) q622 rfl (Or.inr ⟨rfl, rfl, rfl⟩) (fun _ => h3) (fun _ => rfl) (fun _ => rfl) ⟨⟨rfl, rfl⟩, rfl⟩ (fun _ hb => up2_same hb) (fun _ _ => rfl) (fun _ _ => rfl) (put_i (fun _ _ _ => rfl)) (fun h => Sh_si h) dX7_init_12 ?_
  refine J_ltM (fun M3 => ?_)
  exact J_ret (pc := 15) dX7_init_15

theorem C_sg_init (l : Launch) (p0 : Nat) (p2 : Int32) (M : PM) : Ctr l Sh yX7_init cX7_init 3 none 2 rvU [.ref p0, .ref 20, .int p2] M (sg_init p0 p2 M) := Ctr.of (by decide +kernel) (Nat.le_of_ble_eq_true rfl) (fun G => t_sg_init G p0 p2 M)

abbrev T_ac_init (G : JG) (M : PM) (pc : Nat) (L : List (Option Value)) (S : List Value) (o : Option (Unit × PM)) : Prop := JJ G cX8_init yX8_init 5 2 none Sh (finR G Sh rvU) M pc L S o
def ac_init (p0 : Nat) (p2 : Int32) (p3 : Nat) (p4 : Nat) (M : PM) : Option (Unit × PM) :=
    ckk M p0 6 <|
    ckb (105 ≤ p0) <|
    lt (M.sr p0 4 (some 20)) fun M1 =>
    bd (nd_init p0 M1) fun _ M2 =>
    ckk M2 p0 6 <|
    ckb (narrow .char (.int p2) = .int p2 ∧ fits .char (.int p2) = true) <|
    lt (M2.si p0 1 p2) fun M3 =>
    ckk M3 p0 6 <|
    ckb (105 ≤ p0) <|
    lt (M3.sr p0 2 (some p3)) fun M4 =>
    ckk M4 p0 6 <|
    ckb (105 ≤ p0) <|
    lt (M4.sr p0 3 (some p4)) fun M5 =>
    some ((), M5)

set_option maxHeartbeats 4000000 in
theorem t_ac_init (G : JG) (p0 : Nat) (p2 : Int32) (p3 : Nat) (p4 : Nat) (M : PM) : T_ac_init G  M 0 (ent [.ref p0, .ref 20, .int p2, .ref p3, .ref p4] 5) [] (ac_init p0 p2 p3 p4 M) := by
  unfold ac_init
  refine J_aload_n (pc := 0) dX8_init_0 rfl ?_
  refine J_aload_n (pc := 1) dX8_init_1 rfl ?_
  refine J_ckk (fun h1 => ?_)
  refine J_ckb (fun h2 => ?_)
  refine J_put (pc := 2) (a := p0) (v := va_rf (some 20)) (M' := M.sr p0 4 (some 20)) (c := 6) rfl in_X8 tyX8_ok fnX8 4 (by decide) q645 rfl (Or.inr ⟨rfl, rfl, rfl⟩) (fun _ => h1) (fun ad => (nrw_r _ (Or.inl ⟨_, rfl⟩) (some 20) ad).1) (fun ad => (nrw_r _ (Or.inl ⟨_, rfl⟩) (some 20) ad).2) ⟨⟨rfl, rfl⟩, rfl⟩ (fun _ _ => rfl) (fun _ _ => rfl) (fun _ hb => up2_same hb) (put_r (fun _ _ _ => rfl)) (fun h => Sh_srN h h2) dX8_init_2 ?_
  refine J_ltM (fun M1 => ?_)
  refine J_aload_n (pc := 5) dX8_init_5 rfl ?_
  refine J_aload_n (pc := 6) dX8_init_6 rfl ?_
  refine J_callIN (host := "TollOnVowels") (pc := 7) (n := 1) (b := p0) (vs := [.ref 20]) (fun l => C_nd_init l p0 M1) (lw_meth q589) q126 (by decide +kernel) q588 rfl nmh_X4_init rfl (by omega) (by decide) rfl (Nat.le_of_ble_eq_true rfl) dX8_init_7 (fun _u M2 => ?_)
  refine J_aload_n (pc := 10) dX8_init_10 rfl ?_
  refine J_iload_n (pc := 11) dX8_init_11 rfl ?_
  refine J_ckk (fun h3 => ?_)
  refine J_ckb (fun h4 => ?_)
  refine J_put (pc := 12) (a := p0) (v := .int p2) (M' := M2.si p0 1 p2) (c := 6) rfl in_X8 tyX8_ok fnX8 1 (by decide) q642 rfl (Or.inr ⟨rfl, rfl, rfl⟩) (fun _ => h3) (fun _ => h4.1) (fun _ => h4.2) ⟨⟨rfl, rfl⟩, rfl⟩ (fun _ hb => up2_same hb) (fun _ _ => rfl) (fun _ _ => rfl) (put_i (fun _ _ _ => rfl)) (fun h => Sh_si h) dX8_init_12 ?_
  refine J_ltM (fun M3 => ?_)
  refine J_aload_n (pc := 15) dX8_init_15 rfl ?_
  refine J_aload_n (pc := 16) dX8_init_16 rfl ?_
  refine J_ckk (fun h5 => ?_)
  refine J_ckb (fun h6 => ?_)
  refine J_put (pc := 17) (a := p0) (v := va_rf (some p3)) (M' := M3.sr p0 2 (some p3)) (c := 6) rfl in_X8 tyX8_ok fnX8 2 (by decide) q643 rfl (Or.inr ⟨rfl, rfl, rfl⟩) (fun _ => h5) (fun ad => (nrw_r _ (Or.inl ⟨_, rfl⟩) (some p3) ad).1) (fun ad => (nrw_r _ (Or.inl ⟨_, rfl⟩) (some p3) ad).2) ⟨⟨rfl, rfl⟩, rfl⟩ (fun _ _ => rfl) (fun _ _ => rfl) (fun _ hb => up2_same hb) (put_r (fun _ _ _ => rfl)) (fun h => Sh_srN h h6) dX8_init_17 ?_
  refine J_ltM (fun M4 => ?_)
  refine J_aload_n (pc := 20) dX8_init_20 rfl ?_
  refine J_aload (pc := 21) dX8_init_21 rfl ?_
  refine J_ckk (fun h7 => ?_)
  refine J_ckb (fun h8 => ?_)
  refine J_put (pc := 23) (a := p0) (v := va_rf (some p4)) (M' := M4.sr p0 3 (some p4)) (c := 6) rfl in_X8 tyX8_ok fnX8 3 (by decide) q644 rfl (Or.inr ⟨rfl, rfl, rfl⟩) (fun _ => h7) (fun ad => (nrw_r _ (Or.inl ⟨_, rfl⟩) (some p4) ad).1) (fun ad => (nrw_r _ (Or.inl ⟨_, rfl⟩) (some p4) ad).2) ⟨⟨rfl, rfl⟩, rfl⟩ (fun _ _ => rfl) (fun _ _ => rfl) (fun _ hb => up2_same hb) (put_r (fun _ _ _ => rfl)) (fun h => Sh_srN h h8) dX8_init_23 ?_
  refine J_ltM (fun M5 => ?_)
  exact J_ret (pc := 26) dX8_init_26

theorem C_ac_init (l : Launch) (p0 : Nat) (p2 : Int32) (p3 : Nat) (p4 : Nat) (M : PM) : Ctr l Sh yX8_init cX8_init 5 none 2 rvU [.ref p0, .ref 20, .int p2, .ref p3, .ref p4] M (ac_init p0 p2 p3 p4 M) := Ctr.of (by decide +kernel) (Nat.le_of_ble_eq_true rfl) (fun G => t_ac_init G p0 p2 p3 p4 M)

abbrev T_b_ls_value (G : JG) (d : Nat) (M : PM) (pc : Nat) (L : List (Option Value)) (S : List Value) (o : Option (Int32 × PM)) : Prop := JJ G cX5_value yX5_value 1 (d + 21) (some .int) Sh (finR G Sh rvI) M pc L S o
def b_ls_value (f_value : Nat → PM → Option (Int32 × PM)) (p0 : Nat) (M : PM) : Option (Int32 × PM) :=
    ckk M p0 3 <|
    lt (M.r p0 1) fun r1 =>
    rf r1 fun a1 =>
    bd (f_value a1 M) fun v1 M1 =>
    some ((-v1), M1)

set_option maxHeartbeats 4000000 in
theorem t_b_ls_value (G : JG) (d : Nat) (f_value : Nat → PM → Option (Int32 × PM)) (h_value : VC f_value (d + 20)) (p0 : Nat) (M : PM) : T_b_ls_value G d M 0 (ent [.ref p0] 1) [] (b_ls_value f_value p0 M) := by
  unfold b_ls_value
  refine J_aload_n (pc := 0) dX5_value_0 rfl ?_
  refine J_ckk (fun h1 => ?_)
  refine J_getO (pc := 1) (c := 3) rfl in_X5 1 (by decide) q591 rfl (fun _ => h1) (fun _ _ => fv_rf (Or.inl ⟨_, rfl⟩)) dX5_value_1 (fun r1 => ?_)
  refine J_rfe (fun a1 ea1 => ?_)
  subst ea1
  refine J_value (pc := 4) h_value q700 (by omega) (Nat.le_of_ble_eq_true rfl) dX5_value_4 (fun v1 M1 => ?_)
  refine J_ineg (pc := 7) dX5_value_7 ?_
  exact J_iret (pc := 8) dX5_value_8

abbrev T_b_nu_value (G : JG) (d : Nat) (M : PM) (pc : Nat) (L : List (Option Value)) (S : List Value) (o : Option (Int32 × PM)) : Prop := JJ G cX6_value yX6_value 1 (d + 21) (some .int) Sh (finR G Sh rvI) M pc L S o
def b_nu_value (f_value : Nat → PM → Option (Int32 × PM)) (p0 : Nat) (M : PM) : Option (Int32 × PM) :=
    ckk M p0 4 <|
    some ((M.i p0 1), M)

set_option maxHeartbeats 4000000 in
theorem t_b_nu_value (G : JG) (d : Nat) (f_value : Nat → PM → Option (Int32 × PM)) (h_value : VC f_value (d + 20)) (p0 : Nat) (M : PM) : T_b_nu_value G d M 0 (ent [.ref p0] 1) [] (b_nu_value f_value p0 M) := by
  unfold b_nu_value
  refine J_aload_n (pc := 0) dX6_value_0 rfl ?_
  refine J_ckk (fun h1 => ?_)
  refine J_get (pc := 1) (c := 4) (.int (M.i p0 1)) rfl in_X6 1 (by decide) q607 rfl (fun _ => h1) (fun _ _ => rfl) dX6_value_1 ?_
  exact J_iret (pc := 4) dX6_value_4

abbrev T_b_sg_value (G : JG) (d : Nat) (M : PM) (pc : Nat) (L : List (Option Value)) (S : List Value) (o : Option (Int32 × PM)) : Prop := JJ G cX7_value yX7_value 1 (d + 21) (some .int) Sh (finR G Sh rvI) M pc L S o
def b_sg_value (f_value : Nat → PM → Option (Int32 × PM)) (p0 : Nat) (M : PM) : Option (Int32 × PM) :=
    ckk M p0 5 <|
    if (M.i p0 1) = 104 then (ckk M p0 5 <|
    lt (M.r p0 2) fun r1 =>
    rf r1 fun a1 =>
    ckk M a1 0 <|
    some ((M.i a1 33), M))
    else if (M.i p0 1) = 108 then (ckk M p0 5 <|
    lt (M.r p0 2) fun r2 =>
    rf r2 fun a2 =>
    ckk M a2 0 <|
    some ((M.i a2 34), M))
    else if (M.i p0 1) = 110 then (ckk M p0 5 <|
    lt (M.r p0 2) fun r3 =>
    rf r3 fun a3 =>
    ckk M a3 0 <|
    some ((M.i a3 36), M))
    else if (M.i p0 1) = 112 then (ckk M p0 5 <|
    lt (M.r p0 2) fun r4 =>
    rf r4 fun a4 =>
    ckk M a4 0 <|
    some ((M.i a4 35), M))
    else if (M.i p0 1) = 115 then (ckk M p0 5 <|
    lt (M.r p0 2) fun r5 =>
    rf r5 fun a5 =>
    ckk M a5 0 <|
    some ((M.i a5 32), M))
    else if (M.i p0 1) = 118 then (ckk M p0 5 <|
    lt (M.r p0 2) fun r6 =>
    rf r6 fun a6 =>
    ckk M a6 0 <|
    some ((M.i a6 31), M))
    else (ckk M p0 5 <|
    lt (M.r p0 2) fun r7 =>
    rf r7 fun a7 =>
    ckk M a7 0 <|
    some ((M.i a7 37), M))

set_option maxHeartbeats 4000000 in
theorem t_b_sg_value (G : JG) (d : Nat) (f_value : Nat → PM → Option (Int32 × PM)) (h_value : VC f_value (d + 20)) (p0 : Nat) (M : PM) : T_b_sg_value G d M 0 (ent [.ref p0] 1) [] (b_sg_value f_value p0 M) := by
  unfold b_sg_value
  refine J_aload_n (pc := 0) dX7_value_0 rfl ?_
  refine J_ckk (fun h1 => ?_)
  refine J_get (pc := 1) (c := 5) (.int (M.i p0 1)) rfl in_X7 1 (by decide) q622 rfl (fun _ => h1) (fun _ _ => rfl) dX7_value_1 ?_
  refine J_ite (fun h_4_104 => ?_) (fun h_4_104 => ?_)
  · refine J_tableIn (pc := 4) 96 dX7_value_4 (by rw [h_4_104]; decide) (by rw [h_4_104]; decide) (by rw [h_4_104]; rfl) rfl ?_
    refine J_aload_n (pc := 96) dX7_value_96 rfl ?_
    refine J_ckk (fun h2 => ?_)
    refine J_getO (pc := 97) (c := 5) rfl in_X7 2 (by decide) q623 rfl (fun _ => h2) (fun _ _ => fv_rf (Or.inl ⟨_, rfl⟩)) dX7_value_97 (fun r1 => ?_)
    refine J_rfe (fun a1 ea1 => ?_)
    subst ea1
    refine J_ckk (fun h3 => ?_)
    refine J_getN (host := "TollOnVowels") (pc := 100) (c := 0) (.int (M.i a1 33)) rfl in_X1 33 (by decide) (by decide +kernel) rfl (fun _ => h3) (fun _ _ => rfl) dX7_value_100 ?_
    exact J_iret (pc := 103) dX7_value_103
  · refine J_ite (fun h_4_108 => ?_) (fun h_4_108 => ?_)
    · refine J_tableIn (pc := 4) 104 dX7_value_4 (by rw [h_4_108]; decide) (by rw [h_4_108]; decide) (by rw [h_4_108]; rfl) rfl ?_
      refine J_aload_n (pc := 104) dX7_value_104 rfl ?_
      refine J_ckk (fun h4 => ?_)
      refine J_getO (pc := 105) (c := 5) rfl in_X7 2 (by decide) q623 rfl (fun _ => h4) (fun _ _ => fv_rf (Or.inl ⟨_, rfl⟩)) dX7_value_105 (fun r2 => ?_)
      refine J_rfe (fun a2 ea2 => ?_)
      subst ea2
      refine J_ckk (fun h5 => ?_)
      refine J_getN (host := "TollOnVowels") (pc := 108) (c := 0) (.int (M.i a2 34)) rfl in_X1 34 (by decide) (by decide +kernel) rfl (fun _ => h5) (fun _ _ => rfl) dX7_value_108 ?_
      exact J_iret (pc := 111) dX7_value_111
    · refine J_ite (fun h_4_110 => ?_) (fun h_4_110 => ?_)
      · refine J_tableIn (pc := 4) 120 dX7_value_4 (by rw [h_4_110]; decide) (by rw [h_4_110]; decide) (by rw [h_4_110]; rfl) rfl ?_
        refine J_aload_n (pc := 120) dX7_value_120 rfl ?_
        refine J_ckk (fun h6 => ?_)
        refine J_getO (pc := 121) (c := 5) rfl in_X7 2 (by decide) q623 rfl (fun _ => h6) (fun _ _ => fv_rf (Or.inl ⟨_, rfl⟩)) dX7_value_121 (fun r3 => ?_)
        refine J_rfe (fun a3 ea3 => ?_)
        subst ea3
        refine J_ckk (fun h7 => ?_)
        refine J_getN (host := "TollOnVowels") (pc := 124) (c := 0) (.int (M.i a3 36)) rfl in_X1 36 (by decide) (by decide +kernel) rfl (fun _ => h7) (fun _ _ => rfl) dX7_value_124 ?_
        exact J_iret (pc := 127) dX7_value_127
      · refine J_ite (fun h_4_112 => ?_) (fun h_4_112 => ?_)
        · refine J_tableIn (pc := 4) 112 dX7_value_4 (by rw [h_4_112]; decide) (by rw [h_4_112]; decide) (by rw [h_4_112]; rfl) rfl ?_
          refine J_aload_n (pc := 112) dX7_value_112 rfl ?_
          refine J_ckk (fun h8 => ?_)
          refine J_getO (pc := 113) (c := 5) rfl in_X7 2 (by decide) q623 rfl (fun _ => h8) (fun _ _ => fv_rf (Or.inl ⟨_, rfl⟩)) dX7_value_113 (fun r4 => ?_)
          refine J_rfe (fun a4 ea4 => ?_)
          subst ea4
          refine J_ckk (fun h9 => ?_)
          refine J_getN (host := "TollOnVowels") (pc := 116) (c := 0) (.int (M.i a4 35)) rfl in_X1 35 (by decide) (by decide +kernel) rfl (fun _ => h9) (fun _ _ => rfl) dX7_value_116 ?_
          exact J_iret (pc := 119) dX7_value_119
        · refine J_ite (fun h_4_115 => ?_) (fun h_4_115 => ?_)
          · refine J_tableIn (pc := 4) 88 dX7_value_4 (by rw [h_4_115]; decide) (by rw [h_4_115]; decide) (by rw [h_4_115]; rfl) rfl ?_
            refine J_aload_n (pc := 88) dX7_value_88 rfl ?_
            refine J_ckk (fun h10 => ?_)
            refine J_getO (pc := 89) (c := 5) rfl in_X7 2 (by decide) q623 rfl (fun _ => h10) (fun _ _ => fv_rf (Or.inl ⟨_, rfl⟩)) dX7_value_89 (fun r5 => ?_)
            refine J_rfe (fun a5 ea5 => ?_)
            subst ea5
            refine J_ckk (fun h11 => ?_)
            refine J_getN (host := "TollOnVowels") (pc := 92) (c := 0) (.int (M.i a5 32)) rfl in_X1 32 (by decide) (by decide +kernel) rfl (fun _ => h11) (fun _ _ => rfl) dX7_value_92 ?_
            exact J_iret (pc := 95) dX7_value_95
          · refine J_ite (fun h_4_118 => ?_) (fun h_4_118 => ?_)
            · refine J_tableIn (pc := 4) 80 dX7_value_4 (by rw [h_4_118]; decide) (by rw [h_4_118]; decide) (by rw [h_4_118]; rfl) rfl ?_
              refine J_aload_n (pc := 80) dX7_value_80 rfl ?_
              refine J_ckk (fun h12 => ?_)
              refine J_getO (pc := 81) (c := 5) rfl in_X7 2 (by decide) q623 rfl (fun _ => h12) (fun _ _ => fv_rf (Or.inl ⟨_, rfl⟩)) dX7_value_81 (fun r6 => ?_)
              refine J_rfe (fun a6 ea6 => ?_)
              subst ea6
              refine J_ckk (fun h13 => ?_)
              refine J_getN (host := "TollOnVowels") (pc := 84) (c := 0) (.int (M.i a6 31)) rfl in_X1 31 (by decide) (by decide +kernel) rfl (fun _ => h13) (fun _ _ => rfl) dX7_value_84 ?_
              exact J_iret (pc := 87) dX7_value_87
            · refine J_tableD (pc := 4) 128 dX7_value_4 rfl (by decide) (by decide) [104, 108, 110, 112, 115, 118] (by decide +kernel) (by simp only [List.mem_cons, List.not_mem_nil, or_false, forall_eq_or_imp, forall_eq]; exact ⟨fun q => h_4_104 (i32_of q), fun q => h_4_108 (i32_of q), fun q => h_4_110 (i32_of q), fun q => h_4_112 (i32_of q), fun q => h_4_115 (i32_of q), fun q => h_4_118 (i32_of q)⟩) ?_
              refine J_aload_n (pc := 128) dX7_value_128 rfl ?_
              refine J_ckk (fun h14 => ?_)
              refine J_getO (pc := 129) (c := 5) rfl in_X7 2 (by decide) q623 rfl (fun _ => h14) (fun _ _ => fv_rf (Or.inl ⟨_, rfl⟩)) dX7_value_129 (fun r7 => ?_)
              refine J_rfe (fun a7 ea7 => ?_)
              subst ea7
              refine J_ckk (fun h15 => ?_)
              refine J_getN (host := "TollOnVowels") (pc := 132) (c := 0) (.int (M.i a7 37)) rfl in_X1 37 (by decide) (by decide +kernel) rfl (fun _ => h15) (fun _ _ => rfl) dX7_value_132 ?_
              exact J_iret (pc := 135) dX7_value_135

abbrev T_b_ac_value (G : JG) (d : Nat) (M : PM) (pc : Nat) (L : List (Option Value)) (S : List Value) (o : Option (Int32 × PM)) : Prop := JJ G cX8_value yX8_value 3 (d + 21) (some .int) Sh (finR G Sh rvI) M pc L S o
def b_ac_value (f_value : Nat → PM → Option (Int32 × PM)) (p0 : Nat) (M : PM) : Option (Int32 × PM) :=
    ckk M p0 6 <|
    lt (M.r p0 2) fun r1 =>
    rf r1 fun a1 =>
    bd (f_value a1 M) fun v1 M1 =>
    ckk M1 p0 6 <|
    lt (M1.r p0 3) fun r2 =>
    rf r2 fun a2 =>
    bd (f_value a2 M1) fun v2 M2 =>
    ckk M2 p0 6 <|
    if (M2.i p0 1) = 42 then (some ((v1 * v2), M2))
    else if (M2.i p0 1) = 43 then (some ((v1 + v2), M2))
    else if (M2.i p0 1) = 45 then (some ((v1 - v2), M2))
    else if (M2.i p0 1) = 47 then (if v2 = 0 then (some (0, M2))
    else (ckb (¬ (v2 : Int32) = 0) <|
    some ((v1 / v2), M2)))
    else if (M2.i p0 1) = 60 then (if v2 ≤ v1 then (some (0, M2))
    else (some (1, M2)))
    else if (M2.i p0 1) = 62 then (if v1 ≤ v2 then (some (0, M2))
    else (some (1, M2)))
    else (if v1 = v2 then (some (1, M2))
    else (some (0, M2)))

set_option maxHeartbeats 4000000 in
theorem t_b_ac_value (G : JG) (d : Nat) (f_value : Nat → PM → Option (Int32 × PM)) (h_value : VC f_value (d + 20)) (p0 : Nat) (M : PM) : T_b_ac_value G d M 0 (ent [.ref p0] 3) [] (b_ac_value f_value p0 M) := by
  unfold b_ac_value
  refine J_aload_n (pc := 0) dX8_value_0 rfl ?_
  refine J_ckk (fun h1 => ?_)
  refine J_getO (pc := 1) (c := 6) rfl in_X8 2 (by decide) q643 rfl (fun _ => h1) (fun _ _ => fv_rf (Or.inl ⟨_, rfl⟩)) dX8_value_1 (fun r1 => ?_)
  refine J_rfe (fun a1 ea1 => ?_)
  subst ea1
  refine J_value (pc := 4) h_value q697 (by omega) (Nat.le_of_ble_eq_true rfl) dX8_value_4 (fun v1 M1 => ?_)
  refine J_istore_n (pc := 7) dX8_value_7 (by decide) ?_
  refine J_aload_n (pc := 8) dX8_value_8 rfl ?_
  refine J_ckk (fun h3 => ?_)
  refine J_getO (pc := 9) (c := 6) rfl in_X8 3 (by decide) q644 rfl (fun _ => h3) (fun _ _ => fv_rf (Or.inl ⟨_, rfl⟩)) dX8_value_9 (fun r2 => ?_)
  refine J_rfe (fun a2 ea2 => ?_)
  subst ea2
  refine J_value (pc := 12) h_value q697 (by omega) (Nat.le_of_ble_eq_true rfl) dX8_value_12 (fun v2 M2 => ?_)
  refine J_istore_n (pc := 15) dX8_value_15 (by decide) ?_
  refine J_aload_n (pc := 16) dX8_value_16 rfl ?_
  refine J_ckk (fun h5 => ?_)
  refine J_get (pc := 17) (c := 6) (.int (M2.i p0 1)) rfl in_X8 1 (by decide) q642 rfl (fun _ => h5) (fun _ _ => rfl) dX8_value_17 ?_
  refine J_ite (fun h_20_42 => ?_) (fun h_20_42 => ?_)
  · refine J_lookup (pc := 20) 88 dX8_value_20 rfl (by rw [h_20_42] <;> rfl) rfl ?_
    refine J_iload_n (pc := 88) dX8_value_88 rfl ?_
    refine J_iload_n (pc := 89) dX8_value_89 rfl ?_
    refine J_imul (pc := 90) dX8_value_90 ?_
    exact J_iret (pc := 91) dX8_value_91
  · refine J_ite (fun h_20_43 => ?_) (fun h_20_43 => ?_)
    · refine J_lookup (pc := 20) 80 dX8_value_20 rfl (by rw [h_20_43] <;> rfl) rfl ?_
      refine J_iload_n (pc := 80) dX8_value_80 rfl ?_
      refine J_iload_n (pc := 81) dX8_value_81 rfl ?_
      refine J_iadd (pc := 82) dX8_value_82 ?_
      exact J_iret (pc := 83) dX8_value_83
    · refine J_ite (fun h_20_45 => ?_) (fun h_20_45 => ?_)
      · refine J_lookup (pc := 20) 84 dX8_value_20 rfl (by rw [h_20_45] <;> rfl) rfl ?_
        refine J_iload_n (pc := 84) dX8_value_84 rfl ?_
        refine J_iload_n (pc := 85) dX8_value_85 rfl ?_
        refine J_isub (pc := 86) dX8_value_86 ?_
        exact J_iret (pc := 87) dX8_value_87
      · refine J_ite (fun h_20_47 => ?_) (fun h_20_47 => ?_)
        · refine J_lookup (pc := 20) 92 dX8_value_20 rfl (by rw [h_20_47] <;> rfl) rfl ?_
          refine J_iload_n (pc := 92) dX8_value_92 rfl ?_
          refine J_if_ne (pc := 93) 100 dX8_value_93 rfl (fun h => if_neg h) (fun h => if_pos h) (fun _ => ?_) (fun _ => ?_)
          · refine J_iload_n (pc := 100) dX8_value_100 rfl ?_
            refine J_iload_n (pc := 101) dX8_value_101 rfl ?_
            refine J_ckb (fun h6 => ?_)
            refine J_idiv (pc := 102) dX8_value_102 h6 ?_
            exact J_iret (pc := 103) dX8_value_103
          · refine J_iconst (pc := 96) 0 dX8_value_96 (by decide) ?_
            refine J_goto (pc := 97) 103 dX8_value_97 rfl ?_
            exact J_iret (pc := 103) dX8_value_103
        · refine J_ite (fun h_20_60 => ?_) (fun h_20_60 => ?_)
          · refine J_lookup (pc := 20) 104 dX8_value_20 rfl (by rw [h_20_60] <;> rfl) rfl ?_
            refine J_iload_n (pc := 104) dX8_value_104 rfl ?_
            refine J_iload_n (pc := 105) dX8_value_105 rfl ?_
            refine J_icmp_ge (pc := 106) 113 dX8_value_106 rfl (fun h => if_pos h) (fun h => if_neg h) (fun _ => ?_) (fun _ => ?_)
            · refine J_iconst (pc := 113) 0 dX8_value_113 (by decide) ?_
              exact J_iret (pc := 114) dX8_value_114
            · refine J_iconst (pc := 109) 1 dX8_value_109 (by decide) ?_
              refine J_goto (pc := 110) 114 dX8_value_110 rfl ?_
              exact J_iret (pc := 114) dX8_value_114
          · refine J_ite (fun h_20_62 => ?_) (fun h_20_62 => ?_)
            · refine J_lookup (pc := 20) 115 dX8_value_20 rfl (by rw [h_20_62] <;> rfl) rfl ?_
              refine J_iload_n (pc := 115) dX8_value_115 rfl ?_
              refine J_iload_n (pc := 116) dX8_value_116 rfl ?_
              refine J_icmp_le (pc := 117) 124 dX8_value_117 rfl (fun h => if_pos h) (fun h => if_neg h) (fun _ => ?_) (fun _ => ?_)
              · refine J_iconst (pc := 124) 0 dX8_value_124 (by decide) ?_
                exact J_iret (pc := 125) dX8_value_125
              · refine J_iconst (pc := 120) 1 dX8_value_120 (by decide) ?_
                refine J_goto (pc := 121) 125 dX8_value_121 rfl ?_
                exact J_iret (pc := 125) dX8_value_125
            · refine J_lookup (pc := 20) 126 dX8_value_20 rfl (lk_out (by simp only [List.map_cons, List.map_nil, List.mem_cons, List.not_mem_nil, or_false, forall_eq_or_imp, forall_eq]; exact ⟨fun q => h_20_42 (i32_of q), fun q => h_20_43 (i32_of q), fun q => h_20_45 (i32_of q), fun q => h_20_47 (i32_of q), fun q => h_20_60 (i32_of q), fun q => h_20_62 (i32_of q)⟩)) rfl ?_
              refine J_iload_n (pc := 126) dX8_value_126 rfl ?_
              refine J_iload_n (pc := 127) dX8_value_127 rfl ?_
              refine J_icmp_ne (pc := 128) 135 dX8_value_128 rfl (fun h => if_neg h) (fun h => if_pos h) (fun _ => ?_) (fun _ => ?_)
              · refine J_iconst (pc := 135) 0 dX8_value_135 (by decide) ?_
                exact J_iret (pc := 136) dX8_value_136
              · refine J_iconst (pc := 131) 1 dX8_value_131 (by decide) ?_
                refine J_goto (pc := 132) 136 dX8_value_132 rfl ?_
                exact J_iret (pc := 136) dX8_value_136

def v_G : Nat → Nat → PM → Option (Int32 × PM)
  | 0, _, _ => none
  | n + 1, a, M => if (M.k a).1 = 3 then b_ls_value (v_G n) a M else if (M.k a).1 = 4 then b_nu_value (v_G n) a M else if (M.k a).1 = 5 then b_sg_value (v_G n) a M else if (M.k a).1 = 6 then b_ac_value (v_G n) a M else none
theorem v_VCG : ∀ d : Nat, VC (v_G d) (d + 20) := by
  intro d
  induction d with
  | zero => exact fun a M => ⟨fun _ _ r M1 h => (by cases h), fun _ _ r M1 h => (by cases h), fun _ _ r M1 h => (by cases h), fun _ _ r M1 h => (by cases h), fun _ => rfl⟩
  | succ d ih =>
    intro a M
    refine ⟨fun h l => ?_, fun h l => ?_, fun h l => ?_, fun h l => ?_, fun h => ?_⟩
    · rw [v_G, if_pos h]
      exact Ctr.of (by decide +kernel) (Nat.le_of_ble_eq_true rfl) (fun G => t_b_ls_value G d _ ih a M)
    · rw [v_G, if_neg (by omega), if_pos h]
      exact Ctr.of (by decide +kernel) (Nat.le_of_ble_eq_true rfl) (fun G => t_b_nu_value G d _ ih a M)
    · rw [v_G, if_neg (by omega), if_neg (by omega), if_pos h]
      exact Ctr.of (by decide +kernel) (Nat.le_of_ble_eq_true rfl) (fun G => t_b_sg_value G d _ ih a M)
    · rw [v_G, if_neg (by omega), if_neg (by omega), if_neg (by omega), if_pos h]
      exact Ctr.of (by decide +kernel) (Nat.le_of_ble_eq_true rfl) (fun G => t_b_ac_value G d _ ih a M)
    · rw [v_G, if_neg (by omega), if_neg (by omega), if_neg (by omega), if_neg (by omega)]
def v_value (a : Nat) (M : PM) : Option (Int32 × PM) := v_G 120 a M
theorem v_VC : VC v_value 140 := v_VCG 120
abbrev T_rd_init (G : JG) (M : PM) (pc : Nat) (L : List (Option Value)) (S : List Value) (o : Option (Unit × PM)) : Prop := JJ G cX2_init yX2_init 1 1 none Sh (finR G Sh rvU) M pc L S o
def rd_init (p0 : Nat) (M : PM) : Option (Unit × PM) :=
    lt (M.nw 20 4 4) fun M1 =>
    ckk M1 p0 1 <|
    ckb (105 ≤ p0) <|
    lt (M1.sr p0 0 (some M.n)) fun M2 =>
    lt (M2.nw 20 4 4) fun M3 =>
    ckk M3 p0 1 <|
    ckb (105 ≤ p0) <|
    lt (M3.sr p0 1 (some M2.n)) fun M4 =>
    lt (M4.nw 20 4 4) fun M5 =>
    ckk M5 p0 1 <|
    ckb (105 ≤ p0) <|
    lt (M5.sr p0 2 (some M4.n)) fun M6 =>
    lt (M6.nw 20 30 30) fun M7 =>
    ckk M7 p0 1 <|
    ckb (105 ≤ p0) <|
    lt (M7.sr p0 3 (some M6.n)) fun M8 =>
    some ((), M8)

set_option maxHeartbeats 4000000 in
theorem t_rd_init (G : JG) (p0 : Nat) (M : PM) : T_rd_init G  M 0 (ent [.ref p0] 1) [] (rd_init p0 M) := by
  unfold rd_init
  refine J_aload_n (pc := 0) dX2_init_0 rfl ?_
  refine J_obj (pc := 1) (by omega) q149 q142 q143 (by decide) dX2_init_1 ?_
  refine J_aload_n (pc := 4) dX2_init_4 rfl ?_
  refine J_iconst (pc := 5) 4 dX2_init_5 (by decide) ?_
  refine J_newa (pc := 6) (atype := .int) (c := 20) (N := 4) (by decide) (by decide) rfl q175 (by decide) (by decide) (Nat.le_of_ble_eq_true rfl) (fun _ _ => nw_d20) (fun h => Sh_nw h) dX2_init_6 ?_
  refine J_ltM (fun M1 => ?_)
  refine J_ckk (fun h1 => ?_)
  refine J_ckb (fun h2 => ?_)
  refine J_put (pc := 8) (a := p0) (v := va_rf (some M.n)) (M' := M1.sr p0 0 (some M.n)) (c := 1) rfl in_X2 tyX2_ok fnX2 0 (by decide) q150 rfl (Or.inr ⟨rfl, rfl, rfl⟩) (fun _ => h1) (fun ad => (nrw_r _ (Or.inr ⟨_, rfl⟩) (some M.n) ad).1) (fun ad => (nrw_r _ (Or.inr ⟨_, rfl⟩) (some M.n) ad).2) ⟨⟨rfl, rfl⟩, rfl⟩ (fun _ _ => rfl) (fun _ _ => rfl) (fun _ hb => up2_same hb) (put_r (fun _ _ _ => rfl)) (fun h => Sh_srN h h2) dX2_init_8 ?_
  refine J_ltM (fun M2 => ?_)
  refine J_aload_n (pc := 11) dX2_init_11 rfl ?_
  refine J_iconst (pc := 12) 4 dX2_init_12 (by decide) ?_
  refine J_newa (pc := 13) (atype := .int) (c := 20) (N := 4) (by decide) (by decide) rfl q175 (by decide) (by decide) (Nat.le_of_ble_eq_true rfl) (fun _ _ => nw_d20) (fun h => Sh_nw h) dX2_init_13 ?_
  refine J_ltM (fun M3 => ?_)
  refine J_ckk (fun h3 => ?_)
  refine J_ckb (fun h4 => ?_)
  refine J_put (pc := 15) (a := p0) (v := va_rf (some M2.n)) (M' := M3.sr p0 1 (some M2.n)) (c := 1) rfl in_X2 tyX2_ok fnX2 1 (by decide) q152 rfl (Or.inr ⟨rfl, rfl, rfl⟩) (fun _ => h3) (fun ad => (nrw_r _ (Or.inr ⟨_, rfl⟩) (some M2.n) ad).1) (fun ad => (nrw_r _ (Or.inr ⟨_, rfl⟩) (some M2.n) ad).2) ⟨⟨rfl, rfl⟩, rfl⟩ (fun _ _ => rfl) (fun _ _ => rfl) (fun _ hb => up2_same hb) (put_r (fun _ _ _ => rfl)) (fun h => Sh_srN h h4) dX2_init_15 ?_
  refine J_ltM (fun M4 => ?_)
  refine J_aload_n (pc := 18) dX2_init_18 rfl ?_
  refine J_iconst (pc := 19) 4 dX2_init_19 (by decide) ?_
  refine J_newa (pc := 20) (atype := .int) (c := 20) (N := 4) (by decide) (by decide) rfl q175 (by decide) (by decide) (Nat.le_of_ble_eq_true rfl) (fun _ _ => nw_d20) (fun h => Sh_nw h) dX2_init_20 ?_
  refine J_ltM (fun M5 => ?_)
  refine J_ckk (fun h5 => ?_)
  refine J_ckb (fun h6 => ?_)
  refine J_put (pc := 22) (a := p0) (v := va_rf (some M4.n)) (M' := M5.sr p0 2 (some M4.n)) (c := 1) rfl in_X2 tyX2_ok fnX2 2 (by decide) q154 rfl (Or.inr ⟨rfl, rfl, rfl⟩) (fun _ => h5) (fun ad => (nrw_r _ (Or.inr ⟨_, rfl⟩) (some M4.n) ad).1) (fun ad => (nrw_r _ (Or.inr ⟨_, rfl⟩) (some M4.n) ad).2) ⟨⟨rfl, rfl⟩, rfl⟩ (fun _ _ => rfl) (fun _ _ => rfl) (fun _ hb => up2_same hb) (put_r (fun _ _ _ => rfl)) (fun h => Sh_srN h h6) dX2_init_22 ?_
  refine J_ltM (fun M6 => ?_)
  refine J_aload_n (pc := 25) dX2_init_25 rfl ?_
  refine J_bipush (pc := 26) 30 dX2_init_26 (by decide) ?_
  refine J_newa (pc := 28) (atype := .int) (c := 20) (N := 30) (by decide) (by decide) rfl q175 (by decide) (by decide) (Nat.le_of_ble_eq_true rfl) (fun _ _ => nw_d20) (fun h => Sh_nw h) dX2_init_28 ?_
  refine J_ltM (fun M7 => ?_)
  refine J_ckk (fun h7 => ?_)
  refine J_ckb (fun h8 => ?_)
  refine J_put (pc := 30) (a := p0) (v := va_rf (some M6.n)) (M' := M7.sr p0 3 (some M6.n)) (c := 1) rfl in_X2 tyX2_ok fnX2 3 (by decide) q156 rfl (Or.inr ⟨rfl, rfl, rfl⟩) (fun _ => h7) (fun ad => (nrw_r _ (Or.inr ⟨_, rfl⟩) (some M6.n) ad).1) (fun ad => (nrw_r _ (Or.inr ⟨_, rfl⟩) (some M6.n) ad).2) ⟨⟨rfl, rfl⟩, rfl⟩ (fun _ _ => rfl) (fun _ _ => rfl) (fun _ hb => up2_same hb) (put_r (fun _ _ _ => rfl)) (fun h => Sh_srN h h8) dX2_init_30 ?_
  refine J_ltM (fun M8 => ?_)
  exact J_ret (pc := 33) dX2_init_33

theorem C_rd_init (l : Launch) (p0 : Nat) (M : PM) : Ctr l Sh yX2_init cX2_init 1 none 1 rvU [.ref p0] M (rd_init p0 M) := Ctr.of (by decide +kernel) (Nat.le_of_ble_eq_true rfl) (fun G => t_rd_init G p0 M)

abbrev T_x_sign (G : JG) (M : PM) (pc : Nat) (L : List (Option Value)) (S : List Value) (o : Option (Int32 × PM)) : Prop := JJ G cX1_sign yX1_sign 3 1 (some .int) Sh (finR G Sh rvI) M pc L S o
def x_sign_L13 (c1 : Int32) (k48 : PM → Option (Int32 × PM)) : Nat → Int32 → PM → Option (Int32 × PM)
  | 0, _, _ => none
  | n + 1, v1, M1 =>
    if 4 ≤ v1 then (k48 M1)
    else (ck ((M1.i 20 16) + v1) 80 <|
    lt (M1.si 39 (ix ((M1.i 20 16) + v1)) ((c1 >>> ((24 - (8 * v1)) &&& 31)) &&& 255)) fun M2 =>
    lt (v1 + 1) fun v2 =>
    x_sign_L13 c1 k48 n v2 M2)

set_option maxHeartbeats 4000000 in
theorem t_x_sign_L13 (G : JG) (c1 : Int32) (k48 : PM → Option (Int32 × PM)) (hk48 : ∀ Me, T_x_sign G  Me 48 [some (.ref 20), none, none] [] (k48 Me)) : ∀ (n : Nat) (v1 : Int32) (M1 : PM), T_x_sign G  M1 13 [some (.ref 20), some (.int c1), some (.int v1)] [] (x_sign_L13 c1 k48 n v1 M1) := by
  intro n
  induction n with
  | zero =>
    intro v1 M1
    exact J_none
  | succ n ih =>
    intro v1 M1
    rw [x_sign_L13]
    refine J_iload_n (pc := 13) dX1_sign_13 rfl ?_
    refine J_iconst (pc := 14) 4 dX1_sign_14 (by decide) ?_
    refine J_icmp_ge (pc := 15) 48 dX1_sign_15 rfl (fun h => if_pos h) (fun h => if_neg h) (fun _ => ?_) (fun _ => ?_)
    · exact J_sub (A := [some (.ref 20), none, none]) ⟨rfl, trivial⟩ (hk48 M1)
    · refine J_aload_n (pc := 18) dX1_sign_18 rfl ?_
      refine J_get (pc := 19) (c := 0) (.ref 39) rfl in_X1 15 (by decide) q192 rfl (fun h => sh_k1 h 0 rfl) (fun h _ => fv_ref (Or.inr ⟨_, rfl⟩) (sh_r h 18 rfl)) dX1_sign_19 ?_
      refine J_aload_n (pc := 22) dX1_sign_22 rfl ?_
      refine J_get (pc := 23) (c := 0) (.int (M1.i 20 16)) rfl in_X1 16 (by decide) q193 rfl (fun h => sh_k1 h 0 rfl) (fun _ _ => rfl) dX1_sign_23 ?_
      refine J_iload_n (pc := 26) dX1_sign_26 rfl ?_
      refine J_iadd (pc := 27) dX1_sign_27 ?_
      refine J_iload_n (pc := 28) dX1_sign_28 rfl ?_
      refine J_bipush (pc := 29) 24 dX1_sign_29 (by decide) ?_
      refine J_bipush (pc := 31) 8 dX1_sign_31 (by decide) ?_
      refine J_iload_n (pc := 33) dX1_sign_33 rfl ?_
      refine J_imul (pc := 34) dX1_sign_34 ?_
      refine J_isub (pc := 35) dX1_sign_35 ?_
      refine J_ishr (pc := 36) dX1_sign_36 ?_
      refine J_sipush (pc := 37) 255 dX1_sign_37 (by decide) ?_
      refine J_iand (pc := 40) dX1_sign_40 ?_
      refine J_ck (fun h1 => ?_)
      refine J_iast (pc := 41) (a := 39) (fun h => sh_a h 19 rfl h1) (fun h => Sh_si h) dX1_sign_41 ?_
      refine J_ltM (fun M2 => ?_)
      refine J_iincL (pc := 42) (n := 1) (by decide) dX1_sign_42 rfl (by decide) (fun v2 => ?_)
      refine J_goto (pc := 45) 13 dX1_sign_45 rfl ?_
      exact J_sub (A := [some (.ref 20), some (.int c1), some (.int v2)]) ⟨rfl, ⟨rfl, ⟨rfl, trivial⟩⟩⟩ (ih v2 M2)

def x_sign (p1 : Int32) (M : PM) : Option (Int32 × PM) :=
    if (M.i 20 16) ≤ 76 then (x_sign_L13 p1 (fun (M3 : PM) =>
    lt (M3.si 20 16 ((M3.i 20 16) + 4)) fun M4 =>
    some ((M4.i 20 16), M4)) FU 0 M)
    else (some ((-1), M))

set_option maxHeartbeats 4000000 in
theorem t_x_sign (G : JG) (p1 : Int32) (M : PM) : T_x_sign G  M 0 (ent [.ref 20, .int p1] 3) [] (x_sign p1 M) := by
  unfold x_sign
  refine J_aload_n (pc := 0) dX1_sign_0 rfl ?_
  refine J_get (pc := 1) (c := 0) (.int (M.i 20 16)) rfl in_X1 16 (by decide) q193 rfl (fun h => sh_k1 h 0 rfl) (fun _ _ => rfl) dX1_sign_1 ?_
  refine J_bipush (pc := 4) 76 dX1_sign_4 (by decide) ?_
  refine J_icmp_le (pc := 6) 11 dX1_sign_6 rfl (fun h => if_pos h) (fun h => if_neg h) (fun _ => ?_) (fun _ => ?_)
  · refine J_iconst (pc := 11) 0 dX1_sign_11 (by decide) ?_
    refine J_istore_n (pc := 12) dX1_sign_12 (by decide) ?_
    refine J_sub (A := [some (.ref 20), some (.int p1), some (.int 0)]) ⟨rfl, ⟨rfl, ⟨rfl, trivial⟩⟩⟩ (t_x_sign_L13 G p1 _ ?_ FU 0 M)
    · intro M3
      refine J_aload_n (pc := 48) dX1_sign_48 rfl ?_
      refine J_dup (pc := 49) dX1_sign_49 rfl ?_
      refine J_get (pc := 50) (c := 0) (.int (M3.i 20 16)) rfl in_X1 16 (by decide) q193 rfl (fun h => sh_k1 h 0 rfl) (fun _ _ => rfl) dX1_sign_50 ?_
      refine J_iconst (pc := 53) 4 dX1_sign_53 (by decide) ?_
      refine J_iadd (pc := 54) dX1_sign_54 ?_
      refine J_put (pc := 55) (a := 20) (v := .int ((M3.i 20 16) + 4)) (M' := M3.si 20 16 ((M3.i 20 16) + 4)) (c := 0) rfl in_X1 tyX1_ok fnX1 16 (by decide) q193 rfl (Or.inl rfl) (fun h => sh_k1 h 0 rfl) (fun _ => rfl) (fun _ => rfl) ⟨⟨rfl, rfl⟩, rfl⟩ (fun _ hb => up2_same hb) (fun _ _ => rfl) (fun _ _ => rfl) (put_i (fun _ _ _ => rfl)) (fun h => Sh_si h) dX1_sign_55 ?_
      refine J_ltM (fun M4 => ?_)
      refine J_aload_n (pc := 58) dX1_sign_58 rfl ?_
      refine J_get (pc := 59) (c := 0) (.int (M4.i 20 16)) rfl in_X1 16 (by decide) q193 rfl (fun h => sh_k1 h 0 rfl) (fun _ _ => rfl) dX1_sign_59 ?_
      exact J_iret (pc := 62) dX1_sign_62
  · refine J_iconst (pc := 9) (-1) dX1_sign_9 (by decide) ?_
    exact J_iret (pc := 10) dX1_sign_10

theorem C_x_sign (l : Launch) (p1 : Int32) (M : PM) : Ctr l Sh yX1_sign cX1_sign 3 (some .int) 1 rvI [.ref 20, .int p1] M (x_sign p1 M) := Ctr.of (by decide +kernel) (Nat.le_of_ble_eq_true rfl) (fun G => t_x_sign G p1 M)

abbrev T_x_in (G : JG) (M : PM) (pc : Nat) (L : List (Option Value)) (S : List Value) (o : Option (Int32 × PM)) : Prop := JJ G cX1_in yX1_in 6 1 (some .boolean) Sh (finR G Sh rvI) M pc L S o
def x_in (p0 : Int64) (p2 : Int64) (p4 : Int64) (M : PM) : Option (Int32 × PM) :=
    if (lg_cmp p0 p2) < 0 then (some (0, M))
    else (if 0 < (lg_cmp p0 p4) then (some (0, M))
    else (some (1, M)))

set_option maxHeartbeats 4000000 in
theorem t_x_in (G : JG) (p0 : Int64) (p2 : Int64) (p4 : Int64) (M : PM) : T_x_in G  M 0 (ent [.long p0, .long p2, .long p4] 6) [] (x_in p0 p2 p4 M) := by
  unfold x_in
  refine J_lload_n (pc := 0) dX1_in_0 rfl ?_
  refine J_lload_n (pc := 1) dX1_in_1 rfl ?_
  refine J_lcmp (pc := 2) dX1_in_2 ?_
  refine J_if_lt (pc := 3) 17 dX1_in_3 rfl (fun h => if_pos h) (fun h => if_neg h) (fun _ => ?_) (fun _ => ?_)
  · refine J_iconst (pc := 17) 0 dX1_in_17 (by decide) ?_
    exact J_zret (pc := 18) rfl dX1_in_18
  · refine J_lload_n (pc := 6) dX1_in_6 rfl ?_
    refine J_lload (pc := 7) dX1_in_7 rfl ?_
    refine J_lcmp (pc := 9) dX1_in_9 ?_
    refine J_if_gt (pc := 10) 17 dX1_in_10 rfl (fun h => if_pos h) (fun h => if_neg h) (fun _ => ?_) (fun _ => ?_)
    · refine J_iconst (pc := 17) 0 dX1_in_17 (by decide) ?_
      exact J_zret (pc := 18) rfl dX1_in_18
    · refine J_iconst (pc := 13) 1 dX1_in_13 (by decide) ?_
      refine J_goto (pc := 14) 18 dX1_in_14 rfl ?_
      exact J_zret (pc := 18) rfl dX1_in_18

theorem C_x_in (l : Launch) (p0 : Int64) (p2 : Int64) (p4 : Int64) (M : PM) : Ctr l Sh yX1_in cX1_in 6 (some .boolean) 1 rvI [.long p0, .long p2, .long p4] M (x_in p0 p2 p4 M) := Ctr.of (by decide +kernel) (Nat.le_of_ble_eq_true rfl) (fun G => t_x_in G p0 p2 p4 M)

abbrev T_x_end (G : JG) (M : PM) (pc : Nat) (L : List (Option Value)) (S : List Value) (o : Option (Int32 × PM)) : Prop := JJ G cX1_end yX1_end 2 2 (some .boolean) Sh (finR G Sh rvI) M pc L S o
def x_end (p1 : Int32) (M : PM) : Option (Int32 × PM) :=
    bd (x_in (Int32.toInt64 p1) 0 (Int32.toInt64 (M.i 20 16)) M) fun v1 M1 =>
    if v1 = 0 then (some (0, M1))
    else (lt (M1.si 20 16 p1) fun M2 =>
    some (1, M2))

set_option maxHeartbeats 4000000 in
theorem t_x_end (G : JG) (p1 : Int32) (M : PM) : T_x_end G  M 0 (ent [.ref 20, .int p1] 2) [] (x_end p1 M) := by
  unfold x_end
  refine J_iload_n (pc := 0) dX1_end_0 rfl ?_
  refine J_i2l (pc := 1) dX1_end_1 ?_
  refine J_lconst (pc := 2) 0 dX1_end_2 (by decide) ?_
  refine J_aload_n (pc := 3) dX1_end_3 rfl ?_
  refine J_get (pc := 4) (c := 0) (.int (M.i 20 16)) rfl in_X1 16 (by decide) q193 rfl (fun h => sh_k1 h 0 rfl) (fun _ _ => rfl) dX1_end_4 ?_
  refine J_i2l (pc := 7) dX1_end_7 ?_
  refine J_callS (pc := 8) (n := 3) (vs := [.long (Int32.toInt64 p1), .long 0, .long (Int32.toInt64 (M.i 20 16))]) (fun l => C_x_in l (Int32.toInt64 p1) 0 (Int32.toInt64 (M.i 20 16)) M) (lw_S q398 q399 q116 q400) nmh_X1_in rfl (by omega) (by decide) rfl (Nat.le_of_ble_eq_true rfl) dX1_end_8 (fun v1 M1 => ?_)
  refine J_if_ne (pc := 11) 16 dX1_end_11 rfl (fun h => if_neg h) (fun h => if_pos h) (fun _ => ?_) (fun _ => ?_)
  · refine J_aload_n (pc := 16) dX1_end_16 rfl ?_
    refine J_iload_n (pc := 17) dX1_end_17 rfl ?_
    refine J_put (pc := 18) (a := 20) (v := .int p1) (M' := M1.si 20 16 p1) (c := 0) rfl in_X1 tyX1_ok fnX1 16 (by decide) q193 rfl (Or.inl rfl) (fun h => sh_k1 h 0 rfl) (fun _ => rfl) (fun _ => rfl) ⟨⟨rfl, rfl⟩, rfl⟩ (fun _ hb => up2_same hb) (fun _ _ => rfl) (fun _ _ => rfl) (put_i (fun _ _ _ => rfl)) (fun h => Sh_si h) dX1_end_18 ?_
    refine J_ltM (fun M2 => ?_)
    refine J_iconst (pc := 21) 1 dX1_end_21 (by decide) ?_
    exact J_zret (pc := 22) rfl dX1_end_22
  · refine J_iconst (pc := 14) 0 dX1_end_14 (by decide) ?_
    exact J_zret (pc := 15) rfl dX1_end_15

theorem C_x_end (l : Launch) (p1 : Int32) (M : PM) : Ctr l Sh yX1_end cX1_end 2 (some .boolean) 2 rvI [.ref 20, .int p1] M (x_end p1 M) := Ctr.of (by decide +kernel) (Nat.le_of_ble_eq_true rfl) (fun G => t_x_end G p1 M)

abbrev T_x_begins (G : JG) (M : PM) (pc : Nat) (L : List (Option Value)) (S : List Value) (o : Option (Int32 × PM)) : Prop := JJ G cX1_begins yX1_begins 3 1 (some .int) Sh (finR G Sh rvI) M pc L S o
def x_begins (p1 : Int32) (M : PM) : Option (Int32 × PM) :=
    lt (M.i 20 16) fun v1 =>
    lt (M.si 20 16 0) fun M1 =>
    lt (M1.si 20 17 0) fun M2 =>
    lt (M2.si 20 19 0) fun M3 =>
    lt (M3.si 20 18 (imin v1 p1)) fun M4 =>
    some (v1, M4)

set_option maxHeartbeats 4000000 in
theorem t_x_begins (G : JG) (p1 : Int32) (M : PM) : T_x_begins G  M 0 (ent [.ref 20, .int p1] 3) [] (x_begins p1 M) := by
  unfold x_begins
  refine J_aload_n (pc := 0) dX1_begins_0 rfl ?_
  refine J_get (pc := 1) (c := 0) (.int (M.i 20 16)) rfl in_X1 16 (by decide) q193 rfl (fun h => sh_k1 h 0 rfl) (fun _ _ => rfl) dX1_begins_1 ?_
  refine J_lt (β := Int32) (v := (M.i 20 16)) (L := fun _ => _) (S := fun v1 => [.int v1]) (fun v1 => ?_)
  refine J_istore_n (pc := 4) dX1_begins_4 (by decide) ?_
  refine J_aload_n (pc := 5) dX1_begins_5 rfl ?_
  refine J_iconst (pc := 6) 0 dX1_begins_6 (by decide) ?_
  refine J_put (pc := 7) (a := 20) (v := .int 0) (M' := M.si 20 16 0) (c := 0) rfl in_X1 tyX1_ok fnX1 16 (by decide) q193 rfl (Or.inl rfl) (fun h => sh_k1 h 0 rfl) (fun _ => rfl) (fun _ => rfl) ⟨⟨rfl, rfl⟩, rfl⟩ (fun _ hb => up2_same hb) (fun _ _ => rfl) (fun _ _ => rfl) (put_i (fun _ _ _ => rfl)) (fun h => Sh_si h) dX1_begins_7 ?_
  refine J_ltM (fun M1 => ?_)
  refine J_aload_n (pc := 10) dX1_begins_10 rfl ?_
  refine J_iconst (pc := 11) 0 dX1_begins_11 (by decide) ?_
  refine J_put (pc := 12) (a := 20) (v := .int 0) (M' := M1.si 20 17 0) (c := 0) rfl in_X1 tyX1_ok fnX1 17 (by decide) q194 rfl (Or.inl rfl) (fun h => sh_k1 h 0 rfl) (fun _ => rfl) (fun _ => rfl) ⟨⟨rfl, rfl⟩, rfl⟩ (fun _ hb => up2_same hb) (fun _ _ => rfl) (fun _ _ => rfl) (put_i (fun _ _ _ => rfl)) (fun h => Sh_si h) dX1_begins_12 ?_
  refine J_ltM (fun M2 => ?_)
  refine J_aload_n (pc := 15) dX1_begins_15 rfl ?_
  refine J_iconst (pc := 16) 0 dX1_begins_16 (by decide) ?_
  refine J_put (pc := 17) (a := 20) (v := .int 0) (M' := M2.si 20 19 0) (c := 0) rfl in_X1 tyX1_ok fnX1 19 (by decide) q196 rfl (Or.inl rfl) (fun h => sh_k1 h 0 rfl) (fun _ => rfl) (fun _ => rfl) ⟨⟨rfl, rfl⟩, rfl⟩ (fun _ hb => up2_same hb) (fun _ _ => rfl) (fun _ _ => rfl) (put_i (fun _ _ _ => rfl)) (fun h => Sh_si h) dX1_begins_17 ?_
  refine J_ltM (fun M3 => ?_)
  refine J_aload_n (pc := 20) dX1_begins_20 rfl ?_
  refine J_iload_n (pc := 21) dX1_begins_21 rfl ?_
  refine J_iload_n (pc := 22) dX1_begins_22 rfl ?_
  refine J_min (pc := 23) (by omega) q409 q410 q119 q411 (Nat.le_of_ble_eq_true rfl) dX1_begins_23 ?_
  refine J_put (pc := 26) (a := 20) (v := .int (imin v1 p1)) (M' := M3.si 20 18 (imin v1 p1)) (c := 0) rfl in_X1 tyX1_ok fnX1 18 (by decide) q195 rfl (Or.inl rfl) (fun h => sh_k1 h 0 rfl) (fun _ => rfl) (fun _ => rfl) ⟨⟨rfl, rfl⟩, rfl⟩ (fun _ hb => up2_same hb) (fun _ _ => rfl) (fun _ _ => rfl) (put_i (fun _ _ _ => rfl)) (fun h => Sh_si h) dX1_begins_26 ?_
  refine J_ltM (fun M4 => ?_)
  refine J_iload_n (pc := 29) dX1_begins_29 rfl ?_
  exact J_iret (pc := 30) dX1_begins_30

theorem C_x_begins (l : Launch) (p1 : Int32) (M : PM) : Ctr l Sh yX1_begins cX1_begins 3 (some .int) 1 rvI [.ref 20, .int p1] M (x_begins p1 M) := Ctr.of (by decide +kernel) (Nat.le_of_ble_eq_true rfl) (fun G => t_x_begins G p1 M)

abbrev T_x_isAt (G : JG) (M : PM) (pc : Nat) (L : List (Option Value)) (S : List Value) (o : Option (Int32 × PM)) : Prop := JJ G cX1_isAt yX1_isAt 2 1 (some .boolean) Sh (finR G Sh rvI) M pc L S o
def x_isAt (p1 : Int32) (M : PM) : Option (Int32 × PM) :=
    if (M.i 20 18) ≤ (M.i 20 17) then (some (0, M))
    else (ck (M.i 20 17) 80 <|
    if (M.i 39 (ix (M.i 20 17))) = p1 then (some (1, M))
    else (some (0, M)))

set_option maxHeartbeats 4000000 in
theorem t_x_isAt (G : JG) (p1 : Int32) (M : PM) : T_x_isAt G  M 0 (ent [.ref 20, .int p1] 2) [] (x_isAt p1 M) := by
  unfold x_isAt
  refine J_aload_n (pc := 0) dX1_isAt_0 rfl ?_
  refine J_get (pc := 1) (c := 0) (.int (M.i 20 17)) rfl in_X1 17 (by decide) q194 rfl (fun h => sh_k1 h 0 rfl) (fun _ _ => rfl) dX1_isAt_1 ?_
  refine J_aload_n (pc := 4) dX1_isAt_4 rfl ?_
  refine J_get (pc := 5) (c := 0) (.int (M.i 20 18)) rfl in_X1 18 (by decide) q195 rfl (fun h => sh_k1 h 0 rfl) (fun _ _ => rfl) dX1_isAt_5 ?_
  refine J_icmp_ge (pc := 8) 28 dX1_isAt_8 rfl (fun h => if_pos h) (fun h => if_neg h) (fun _ => ?_) (fun _ => ?_)
  · refine J_iconst (pc := 28) 0 dX1_isAt_28 (by decide) ?_
    exact J_zret (pc := 29) rfl dX1_isAt_29
  · refine J_aload_n (pc := 11) dX1_isAt_11 rfl ?_
    refine J_get (pc := 12) (c := 0) (.ref 39) rfl in_X1 15 (by decide) q192 rfl (fun h => sh_k1 h 0 rfl) (fun h _ => fv_ref (Or.inr ⟨_, rfl⟩) (sh_r h 18 rfl)) dX1_isAt_12 ?_
    refine J_aload_n (pc := 15) dX1_isAt_15 rfl ?_
    refine J_get (pc := 16) (c := 0) (.int (M.i 20 17)) rfl in_X1 17 (by decide) q194 rfl (fun h => sh_k1 h 0 rfl) (fun _ _ => rfl) dX1_isAt_16 ?_
    refine J_ck (fun h1 => ?_)
    refine J_iald (pc := 19) (a := 39) (fun h => sh_a h 19 rfl h1) dX1_isAt_19 ?_
    refine J_iload_n (pc := 20) dX1_isAt_20 rfl ?_
    refine J_icmp_ne (pc := 21) 28 dX1_isAt_21 rfl (fun h => if_neg h) (fun h => if_pos h) (fun _ => ?_) (fun _ => ?_)
    · refine J_iconst (pc := 28) 0 dX1_isAt_28 (by decide) ?_
      exact J_zret (pc := 29) rfl dX1_isAt_29
    · refine J_iconst (pc := 24) 1 dX1_isAt_24 (by decide) ?_
      refine J_goto (pc := 25) 29 dX1_isAt_25 rfl ?_
      exact J_zret (pc := 29) rfl dX1_isAt_29

theorem C_x_isAt (l : Launch) (p1 : Int32) (M : PM) : Ctr l Sh yX1_isAt cX1_isAt 2 (some .boolean) 1 rvI [.ref 20, .int p1] M (x_isAt p1 M) := Ctr.of (by decide +kernel) (Nat.le_of_ble_eq_true rfl) (fun G => t_x_isAt G p1 M)

abbrev T_x_eats (G : JG) (M : PM) (pc : Nat) (L : List (Option Value)) (S : List Value) (o : Option (Int32 × PM)) : Prop := JJ G cX1_eats yX1_eats 3 2 (some .boolean) Sh (finR G Sh rvI) M pc L S o
def x_eats (p1 : Int32) (M : PM) : Option (Int32 × PM) :=
    bd (x_isAt p1 M) fun v1 M1 =>
    lt (if v1 = 0 then 0 else 1 : Int32) fun v2 =>
    lt (M1.si 20 17 ((M1.i 20 17) + v2)) fun M2 =>
    ckb (v1 = 0 ∨ v1 = 1) <|
    some (v1, M2)

set_option maxHeartbeats 4000000 in
theorem t_x_eats (G : JG) (p1 : Int32) (M : PM) : T_x_eats G  M 0 (ent [.ref 20, .int p1] 3) [] (x_eats p1 M) := by
  unfold x_eats
  refine J_aload_n (pc := 0) dX1_eats_0 rfl ?_
  refine J_iload_n (pc := 1) dX1_eats_1 rfl ?_
  refine J_callV (pc := 2) (n := 1) (b := 20) (vs := [.int p1]) (ci := 0) (fun l => C_x_isAt l p1 M) (lw_V q514 q516 qs5 q116 q517) nmv_X1_isAt rfl (by omega) (by decide) rfl (fun h => sh_k1 h 0 rfl) rfl (Nat.le_of_ble_eq_true rfl) dX1_eats_2 (fun v1 M1 => ?_)
  refine J_istore_n (pc := 5) dX1_eats_5 (by decide) ?_
  refine J_aload_n (pc := 6) dX1_eats_6 rfl ?_
  refine J_dup (pc := 7) dX1_eats_7 rfl ?_
  refine J_get (pc := 8) (c := 0) (.int (M1.i 20 17)) rfl in_X1 17 (by decide) q194 rfl (fun h => sh_k1 h 0 rfl) (fun _ _ => rfl) dX1_eats_8 ?_
  refine J_iload_n (pc := 11) dX1_eats_11 rfl ?_
  refine J_ltj (β := Int32) (P := fun J => ∀ v2 : Int32, T_x_eats G M1 20 [none, none, some (.int v1)] [.int v2, .int (M1.i 20 17), .ref 20] (J v2)) (fun v2 => ?_) (fun j1 hj1 => ?_)
  · refine J_iadd (pc := 20) dX1_eats_20 ?_
    refine J_put (pc := 21) (a := 20) (v := .int ((M1.i 20 17) + v2)) (M' := M1.si 20 17 ((M1.i 20 17) + v2)) (c := 0) rfl in_X1 tyX1_ok fnX1 17 (by decide) q194 rfl (Or.inl rfl) (fun h => sh_k1 h 0 rfl) (fun _ => rfl) (fun _ => rfl) ⟨⟨rfl, rfl⟩, rfl⟩ (fun _ hb => up2_same hb) (fun _ _ => rfl) (fun _ _ => rfl) (put_i (fun _ _ _ => rfl)) (fun h => Sh_si h) dX1_eats_21 ?_
    refine J_ltM (fun M2 => ?_)
    refine J_iload_n (pc := 24) dX1_eats_24 rfl ?_
    refine J_ckb (fun h1 => ?_)
    exact J_zret (pc := 25) (nz h1) dX1_eats_25
  refine J_if_eq (pc := 12) 19 dX1_eats_12 rfl (fun h => congrArg j1 (if_pos h)) (fun h => congrArg j1 (if_neg h)) (fun _ => ?_) (fun _ => ?_)
  · refine J_iconst (pc := 19) 0 dX1_eats_19 (by decide) ?_
    exact J_sub (A := [none, none, some (.int v1)]) ⟨rfl, trivial⟩ (hj1 0)
  · refine J_iconst (pc := 15) 1 dX1_eats_15 (by decide) ?_
    refine J_goto (pc := 16) 20 dX1_eats_16 rfl ?_
    exact J_sub (A := [none, none, some (.int v1)]) ⟨rfl, trivial⟩ (hj1 1)

theorem C_x_eats (l : Launch) (p1 : Int32) (M : PM) : Ctr l Sh yX1_eats cX1_eats 3 (some .boolean) 2 rvI [.ref 20, .int p1] M (x_eats p1 M) := Ctr.of (by decide +kernel) (Nat.le_of_ble_eq_true rfl) (fun G => t_x_eats G p1 M)

abbrev T_x_faultOf (G : JG) (M : PM) (pc : Nat) (L : List (Option Value)) (S : List Value) (o : Option (Int32 × PM)) : Prop := JJ G cX1_faultOf yX1_faultOf 4 1 (some .int) Sh (finR G Sh rvI) M pc L S o
def x_faultOf (p1 : Int32) (p2 : Int32) (M : PM) : Option (Int32 × PM) :=
    lt (if p2 = 0 then 0 else (if (M.i 20 17) = (M.i 20 18) then 1 else 0) : Int32) fun v1 =>
    jn (fun (M1 : PM) =>
    if v1 = 0 then (some (((-1) - (M1.i 20 17)), M1))
    else (some (0, M1))) fun j2 =>
    if p1 ≤ (M.i 20 18) then (j2 M)
    else (jn (fun (M2 : PM) =>
    some (((-1) - (M2.i 20 18)), M2)) fun j3 =>
    if v1 = 0 then (if (M.i 20 17) = (M.i 20 18) then (j3 M)
    else (j2 M))
    else (j3 M))

set_option maxHeartbeats 4000000 in
theorem t_x_faultOf (G : JG) (p1 : Int32) (p2 : Int32) (M : PM) : T_x_faultOf G  M 0 (ent [.ref 20, .int p1, .int p2] 4) [] (x_faultOf p1 p2 M) := by
  unfold x_faultOf
  refine J_iload_n (pc := 0) dX1_faultOf_0 rfl ?_
  refine J_ltj (β := Int32) (P := fun J => ∀ v1 : Int32, T_x_faultOf G M 20 [some (.ref 20), some (.int p1), none, none] [.int v1] (J v1)) (fun v1 => ?_) (fun j1 hj1 => ?_)
  · refine J_istore_n (pc := 20) dX1_faultOf_20 (by decide) ?_
    refine J_iload_n (pc := 21) dX1_faultOf_21 rfl ?_
    refine J_aload_n (pc := 22) dX1_faultOf_22 rfl ?_
    refine J_get (pc := 23) (c := 0) (.int (M.i 20 18)) rfl in_X1 18 (by decide) q195 rfl (fun h => sh_k1 h 0 rfl) (fun _ _ => rfl) dX1_faultOf_23 ?_
    refine J_jn (P := fun J => ∀ (M1 : PM), T_x_faultOf G  M1 51 [some (.ref 20), none, none, some (.int v1)] [] (J M1)) (fun M1 => ?_) (fun j2 hj2 => ?_)
    · refine J_iload_n (pc := 51) dX1_faultOf_51 rfl ?_
      refine J_if_eq (pc := 52) 59 dX1_faultOf_52 rfl (fun h => if_pos h) (fun h => if_neg h) (fun _ => ?_) (fun _ => ?_)
      · refine J_iconst (pc := 59) (-1) dX1_faultOf_59 (by decide) ?_
        refine J_aload_n (pc := 60) dX1_faultOf_60 rfl ?_
        refine J_get (pc := 61) (c := 0) (.int (M1.i 20 17)) rfl in_X1 17 (by decide) q194 rfl (fun h => sh_k1 h 0 rfl) (fun _ _ => rfl) dX1_faultOf_61 ?_
        refine J_isub (pc := 64) dX1_faultOf_64 ?_
        exact J_iret (pc := 65) dX1_faultOf_65
      · refine J_iconst (pc := 55) 0 dX1_faultOf_55 (by decide) ?_
        refine J_goto (pc := 56) 65 dX1_faultOf_56 rfl ?_
        exact J_iret (pc := 65) dX1_faultOf_65
    refine J_icmp_le (pc := 26) 51 dX1_faultOf_26 rfl (fun h => if_pos h) (fun h => if_neg h) (fun _ => ?_) (fun _ => ?_)
    · exact J_sub (A := [some (.ref 20), none, none, some (.int v1)]) ⟨rfl, ⟨rfl, trivial⟩⟩ (hj2 M)
    · refine J_iload_n (pc := 29) dX1_faultOf_29 rfl ?_
      refine J_jn (P := fun J => ∀ (M2 : PM), T_x_faultOf G  M2 44 [some (.ref 20), none, none, none] [] (J M2)) (fun M2 => ?_) (fun j3 hj3 => ?_)
      · refine J_iconst (pc := 44) (-1) dX1_faultOf_44 (by decide) ?_
        refine J_aload_n (pc := 45) dX1_faultOf_45 rfl ?_
        refine J_get (pc := 46) (c := 0) (.int (M2.i 20 18)) rfl in_X1 18 (by decide) q195 rfl (fun h => sh_k1 h 0 rfl) (fun _ _ => rfl) dX1_faultOf_46 ?_
        refine J_isub (pc := 49) dX1_faultOf_49 ?_
        exact J_iret (pc := 50) dX1_faultOf_50
      refine J_if_ne (pc := 30) 44 dX1_faultOf_30 rfl (fun h => if_neg h) (fun h => if_pos h) (fun _ => ?_) (fun _ => ?_)
      · exact J_sub (A := [some (.ref 20), none, none, none]) ⟨rfl, trivial⟩ (hj3 M)
      · refine J_aload_n (pc := 33) dX1_faultOf_33 rfl ?_
        refine J_get (pc := 34) (c := 0) (.int (M.i 20 17)) rfl in_X1 17 (by decide) q194 rfl (fun h => sh_k1 h 0 rfl) (fun _ _ => rfl) dX1_faultOf_34 ?_
        refine J_aload_n (pc := 37) dX1_faultOf_37 rfl ?_
        refine J_get (pc := 38) (c := 0) (.int (M.i 20 18)) rfl in_X1 18 (by decide) q195 rfl (fun h => sh_k1 h 0 rfl) (fun _ _ => rfl) dX1_faultOf_38 ?_
        refine J_icmp_ne (pc := 41) 51 dX1_faultOf_41 rfl (fun h => if_neg h) (fun h => if_pos h) (fun _ => ?_) (fun _ => ?_)
        · exact J_sub (A := [some (.ref 20), none, none, some (.int v1)]) ⟨rfl, ⟨rfl, trivial⟩⟩ (hj2 M)
        · exact J_sub (A := [some (.ref 20), none, none, none]) ⟨rfl, trivial⟩ (hj3 M)
  refine J_if_eq (pc := 1) 19 dX1_faultOf_1 rfl (fun h => congrArg j1 (if_pos h)) (fun h => congrArg j1 (if_neg h)) (fun _ => ?_) (fun _ => ?_)
  · refine J_iconst (pc := 19) 0 dX1_faultOf_19 (by decide) ?_
    exact J_sub (A := [some (.ref 20), some (.int p1), none, none]) ⟨rfl, ⟨rfl, trivial⟩⟩ (hj1 0)
  · refine J_aload_n (pc := 4) dX1_faultOf_4 rfl ?_
    refine J_get (pc := 5) (c := 0) (.int (M.i 20 17)) rfl in_X1 17 (by decide) q194 rfl (fun h => sh_k1 h 0 rfl) (fun _ _ => rfl) dX1_faultOf_5 ?_
    refine J_aload_n (pc := 8) dX1_faultOf_8 rfl ?_
    refine J_get (pc := 9) (c := 0) (.int (M.i 20 18)) rfl in_X1 18 (by decide) q195 rfl (fun h => sh_k1 h 0 rfl) (fun _ _ => rfl) dX1_faultOf_9 ?_
    refine J_icmp_ne (pc := 12) 19 dX1_faultOf_12 rfl (fun h => congrArg j1 (if_neg h)) (fun h => congrArg j1 (if_pos h)) (fun _ => ?_) (fun _ => ?_)
    · refine J_iconst (pc := 19) 0 dX1_faultOf_19 (by decide) ?_
      exact J_sub (A := [some (.ref 20), some (.int p1), none, none]) ⟨rfl, ⟨rfl, trivial⟩⟩ (hj1 0)
    · refine J_iconst (pc := 15) 1 dX1_faultOf_15 (by decide) ?_
      refine J_goto (pc := 16) 20 dX1_faultOf_16 rfl ?_
      exact J_sub (A := [some (.ref 20), some (.int p1), none, none]) ⟨rfl, ⟨rfl, trivial⟩⟩ (hj1 1)

theorem C_x_faultOf (l : Launch) (p1 : Int32) (p2 : Int32) (M : PM) : Ctr l Sh yX1_faultOf cX1_faultOf 4 (some .int) 1 rvI [.ref 20, .int p1, .int p2] M (x_faultOf p1 p2 M) := Ctr.of (by decide +kernel) (Nat.le_of_ble_eq_true rfl) (fun G => t_x_faultOf G p1 p2 M)

abbrev T_x_isNew (G : JG) (M : PM) (pc : Nat) (L : List (Option Value)) (S : List Value) (o : Option (Unit × PM)) : Prop := JJ G cX1_isNew yX1_isNew 1 1 none Sh (finR G Sh rvU) M pc L S o
def x_isNew (M : PM) : Option (Unit × PM) :=
    lt (M.si 20 43 0) fun M1 =>
    lt (M1.si 20 14 ((M1.i 20 14) + 1)) fun M2 =>
    some ((), M2)

set_option maxHeartbeats 4000000 in
theorem t_x_isNew (G : JG) (M : PM) : T_x_isNew G  M 0 (ent [.ref 20] 1) [] (x_isNew M) := by
  unfold x_isNew
  refine J_aload_n (pc := 0) dX1_isNew_0 rfl ?_
  refine J_iconst (pc := 1) 0 dX1_isNew_1 (by decide) ?_
  refine J_put (pc := 2) (a := 20) (v := .int 0) (M' := M.si 20 43 0) (c := 0) rfl in_X1 tyX1_ok fnX1 43 (by decide) q227 rfl (Or.inl rfl) (fun h => sh_k1 h 0 rfl) (fun _ => rfl) (fun _ => rfl) ⟨⟨rfl, rfl⟩, rfl⟩ (fun _ hb => up2_same hb) (fun _ _ => rfl) (fun _ _ => rfl) (put_i (fun _ _ _ => rfl)) (fun h => Sh_si h) dX1_isNew_2 ?_
  refine J_ltM (fun M1 => ?_)
  refine J_aload_n (pc := 5) dX1_isNew_5 rfl ?_
  refine J_dup (pc := 6) dX1_isNew_6 rfl ?_
  refine J_get (pc := 7) (c := 0) (.int (M1.i 20 14)) rfl in_X1 14 (by decide) q191 rfl (fun h => sh_k1 h 0 rfl) (fun _ _ => rfl) dX1_isNew_7 ?_
  refine J_iconst (pc := 10) 1 dX1_isNew_10 (by decide) ?_
  refine J_iadd (pc := 11) dX1_isNew_11 ?_
  refine J_put (pc := 12) (a := 20) (v := .int ((M1.i 20 14) + 1)) (M' := M1.si 20 14 ((M1.i 20 14) + 1)) (c := 0) rfl in_X1 tyX1_ok fnX1 14 (by decide) q191 rfl (Or.inl rfl) (fun h => sh_k1 h 0 rfl) (fun _ => rfl) (fun _ => rfl) ⟨⟨rfl, rfl⟩, rfl⟩ (fun _ hb => up2_same hb) (fun _ _ => rfl) (fun _ _ => rfl) (put_i (fun _ _ _ => rfl)) (fun h => Sh_si h) dX1_isNew_12 ?_
  refine J_ltM (fun M2 => ?_)
  exact J_ret (pc := 15) dX1_isNew_15

theorem C_x_isNew (l : Launch) (M : PM) : Ctr l Sh yX1_isNew cX1_isNew 1 none 1 rvU [.ref 20] M (x_isNew M) := Ctr.of (by decide +kernel) (Nat.le_of_ble_eq_true rfl) (fun G => t_x_isNew G M)

abbrev T_x_among (G : JG) (M : PM) (pc : Nat) (L : List (Option Value)) (S : List Value) (o : Option (Int32 × PM)) : Prop := JJ G cX1_among yX1_among 2 6 (some .int) Sh (finR G Sh rvI) M pc L S o
def x_among (p1 : Nat) (M : PM) : Option (Int32 × PM) :=
    if (M.i 20 18) ≤ (M.i 20 17) then (some ((-1), M))
    else (ck (M.i 20 17) 80 <|
    if (M.i 39 (ix (M.i 20 17))) ≤ 0 then (some ((-1), M))
    else (ck (M.i 20 17) 80 <|
    bd (s_indexOf p1 (M.i 39 (ix (M.i 20 17))) M) fun v1 M1 =>
    some (v1, M1)))

set_option maxHeartbeats 4000000 in
theorem t_x_among (G : JG) (p1 : Nat) (M : PM) : T_x_among G  M 0 (ent [.ref 20, .ref p1] 2) [] (x_among p1 M) := by
  unfold x_among
  refine J_aload_n (pc := 0) dX1_among_0 rfl ?_
  refine J_get (pc := 1) (c := 0) (.int (M.i 20 17)) rfl in_X1 17 (by decide) q194 rfl (fun h => sh_k1 h 0 rfl) (fun _ _ => rfl) dX1_among_1 ?_
  refine J_aload_n (pc := 4) dX1_among_4 rfl ?_
  refine J_get (pc := 5) (c := 0) (.int (M.i 20 18)) rfl in_X1 18 (by decide) q195 rfl (fun h => sh_k1 h 0 rfl) (fun _ _ => rfl) dX1_among_5 ?_
  refine J_icmp_ge (pc := 8) 39 dX1_among_8 rfl (fun h => if_pos h) (fun h => if_neg h) (fun _ => ?_) (fun _ => ?_)
  · refine J_iconst (pc := 39) (-1) dX1_among_39 (by decide) ?_
    exact J_iret (pc := 40) dX1_among_40
  · refine J_aload_n (pc := 11) dX1_among_11 rfl ?_
    refine J_get (pc := 12) (c := 0) (.ref 39) rfl in_X1 15 (by decide) q192 rfl (fun h => sh_k1 h 0 rfl) (fun h _ => fv_ref (Or.inr ⟨_, rfl⟩) (sh_r h 18 rfl)) dX1_among_12 ?_
    refine J_aload_n (pc := 15) dX1_among_15 rfl ?_
    refine J_get (pc := 16) (c := 0) (.int (M.i 20 17)) rfl in_X1 17 (by decide) q194 rfl (fun h => sh_k1 h 0 rfl) (fun _ _ => rfl) dX1_among_16 ?_
    refine J_ck (fun h1 => ?_)
    refine J_iald (pc := 19) (a := 39) (fun h => sh_a h 19 rfl h1) dX1_among_19 ?_
    refine J_if_le (pc := 20) 39 dX1_among_20 rfl (fun h => if_pos h) (fun h => if_neg h) (fun _ => ?_) (fun _ => ?_)
    · refine J_iconst (pc := 39) (-1) dX1_among_39 (by decide) ?_
      exact J_iret (pc := 40) dX1_among_40
    · refine J_aload_n (pc := 23) dX1_among_23 rfl ?_
      refine J_aload_n (pc := 24) dX1_among_24 rfl ?_
      refine J_get (pc := 25) (c := 0) (.ref 39) rfl in_X1 15 (by decide) q192 rfl (fun h => sh_k1 h 0 rfl) (fun h _ => fv_ref (Or.inr ⟨_, rfl⟩) (sh_r h 18 rfl)) dX1_among_25 ?_
      refine J_aload_n (pc := 28) dX1_among_28 rfl ?_
      refine J_get (pc := 29) (c := 0) (.int (M.i 20 17)) rfl in_X1 17 (by decide) q194 rfl (fun h => sh_k1 h 0 rfl) (fun _ _ => rfl) dX1_among_29 ?_
      refine J_ck (fun h2 => ?_)
      refine J_iald (pc := 32) (a := 39) (fun h => sh_a h 19 rfl h2) dX1_among_32 ?_
      refine J_indexOf (pc := 33) (i := p1) (by omega) q425 (Nat.le_of_ble_eq_true rfl) dX1_among_33 (fun v1 M1 => ?_)
      refine J_goto (pc := 36) 40 dX1_among_36 rfl ?_
      exact J_iret (pc := 40) dX1_among_40

theorem C_x_among (l : Launch) (p1 : Nat) (M : PM) : Ctr l Sh yX1_among cX1_among 2 (some .int) 6 rvI [.ref 20, .ref p1] M (x_among p1 M) := Ctr.of (by decide +kernel) (Nat.le_of_ble_eq_true rfl) (fun G => t_x_among G p1 M)

abbrev T_x_takesOf (G : JG) (M : PM) (pc : Nat) (L : List (Option Value)) (S : List Value) (o : Option (Int32 × PM)) : Prop := JJ G cX1_takesOf yX1_takesOf 3 7 (some .int) Sh (finR G Sh rvI) M pc L S o
def x_takesOf (p1 : Nat) (M : PM) : Option (Int32 × PM) :=
    bd (x_among p1 M) fun v1 M1 =>
    lt (if v1 < 0 then 0 else 1 : Int32) fun v2 =>
    lt (M1.si 20 17 ((M1.i 20 17) + v2)) fun M2 =>
    some (v1, M2)

set_option maxHeartbeats 4000000 in
theorem t_x_takesOf (G : JG) (p1 : Nat) (M : PM) : T_x_takesOf G  M 0 (ent [.ref 20, .ref p1] 3) [] (x_takesOf p1 M) := by
  unfold x_takesOf
  refine J_aload_n (pc := 0) dX1_takesOf_0 rfl ?_
  refine J_aload_n (pc := 1) dX1_takesOf_1 rfl ?_
  refine J_callV (pc := 2) (n := 1) (b := 20) (vs := [.ref p1]) (ci := 0) (fun l => C_x_among l p1 M) (lw_V q421 q423 qs3 q116 q424) nmv_X1_among rfl (by omega) (by decide) rfl (fun h => sh_k1 h 0 rfl) rfl (Nat.le_of_ble_eq_true rfl) dX1_takesOf_2 (fun v1 M1 => ?_)
  refine J_istore_n (pc := 5) dX1_takesOf_5 (by decide) ?_
  refine J_aload_n (pc := 6) dX1_takesOf_6 rfl ?_
  refine J_dup (pc := 7) dX1_takesOf_7 rfl ?_
  refine J_get (pc := 8) (c := 0) (.int (M1.i 20 17)) rfl in_X1 17 (by decide) q194 rfl (fun h => sh_k1 h 0 rfl) (fun _ _ => rfl) dX1_takesOf_8 ?_
  refine J_iload_n (pc := 11) dX1_takesOf_11 rfl ?_
  refine J_ltj (β := Int32) (P := fun J => ∀ v2 : Int32, T_x_takesOf G M1 20 [none, none, some (.int v1)] [.int v2, .int (M1.i 20 17), .ref 20] (J v2)) (fun v2 => ?_) (fun j1 hj1 => ?_)
  · refine J_iadd (pc := 20) dX1_takesOf_20 ?_
    refine J_put (pc := 21) (a := 20) (v := .int ((M1.i 20 17) + v2)) (M' := M1.si 20 17 ((M1.i 20 17) + v2)) (c := 0) rfl in_X1 tyX1_ok fnX1 17 (by decide) q194 rfl (Or.inl rfl) (fun h => sh_k1 h 0 rfl) (fun _ => rfl) (fun _ => rfl) ⟨⟨rfl, rfl⟩, rfl⟩ (fun _ hb => up2_same hb) (fun _ _ => rfl) (fun _ _ => rfl) (put_i (fun _ _ _ => rfl)) (fun h => Sh_si h) dX1_takesOf_21 ?_
    refine J_ltM (fun M2 => ?_)
    refine J_iload_n (pc := 24) dX1_takesOf_24 rfl ?_
    exact J_iret (pc := 25) dX1_takesOf_25
  refine J_if_lt (pc := 12) 19 dX1_takesOf_12 rfl (fun h => congrArg j1 (if_pos h)) (fun h => congrArg j1 (if_neg h)) (fun _ => ?_) (fun _ => ?_)
  · refine J_iconst (pc := 19) 0 dX1_takesOf_19 (by decide) ?_
    exact J_sub (A := [none, none, some (.int v1)]) ⟨rfl, trivial⟩ (hj1 0)
  · refine J_iconst (pc := 15) 1 dX1_takesOf_15 (by decide) ?_
    refine J_goto (pc := 16) 20 dX1_takesOf_16 rfl ?_
    exact J_sub (A := [none, none, some (.int v1)]) ⟨rfl, trivial⟩ (hj1 1)

theorem C_x_takesOf (l : Launch) (p1 : Nat) (M : PM) : Ctr l Sh yX1_takesOf cX1_takesOf 3 (some .int) 7 rvI [.ref 20, .ref p1] M (x_takesOf p1 M) := Ctr.of (by decide +kernel) (Nat.le_of_ble_eq_true rfl) (fun G => t_x_takesOf G p1 M)

abbrev T_x_readsWord (G : JG) (M : PM) (pc : Nat) (L : List (Option Value)) (S : List Value) (o : Option (Int32 × PM)) : Prop := JJ G cX1_readsWord yX1_readsWord 3 8 (some .boolean) Sh (finR G Sh rvI) M pc L S o
def x_readsWord_L50 (c1 : Int32) (k88 : Int32 → PM → Option (Int32 × PM)) : Nat → Int32 → PM → Option (Int32 × PM)
  | 0, _, _ => none
  | n + 1, v4, M5 =>
    jn (fun (M6 : PM) =>
    k88 v4 M6) fun j1 =>
    if 6 ≤ v4 then (j1 M5)
    else (bd (x_among 2 M5) fun v5 M7 =>
    if v5 < 0 then (j1 M7)
    else (bd (x_takesOf 2 M7) fun v6 M8 =>
    ck ((6 * c1) + v4) 60 <|
    lt (M8.si 40 (ix ((6 * c1) + v4)) v6) fun M9 =>
    lt (v4 + 1) fun v7 =>
    x_readsWord_L50 c1 k88 n v7 M9))

set_option maxHeartbeats 4000000 in
theorem t_x_readsWord_L50 (G : JG) (c1 : Int32) (k88 : Int32 → PM → Option (Int32 × PM)) (hk88 : ∀ z2 Me, T_x_readsWord G  Me 88 [some (.ref 20), some (.int c1), some (.int z2)] [] (k88 z2 Me)) : ∀ (n : Nat) (v4 : Int32) (M5 : PM), T_x_readsWord G  M5 50 [some (.ref 20), some (.int c1), some (.int v4)] [] (x_readsWord_L50 c1 k88 n v4 M5) := by
  intro n
  induction n with
  | zero =>
    intro v4 M5
    exact J_none
  | succ n ih =>
    intro v4 M5
    rw [x_readsWord_L50]
    refine J_iload_n (pc := 50) dX1_readsWord_50 rfl ?_
    refine J_bipush (pc := 51) 6 dX1_readsWord_51 (by decide) ?_
    refine J_jn (P := fun J => ∀ (M6 : PM), T_x_readsWord G  M6 88 [some (.ref 20), some (.int c1), some (.int v4)] [] (J M6)) (fun M6 => ?_) (fun j1 hj1 => ?_)
    · exact J_sub (A := [some (.ref 20), some (.int c1), some (.int v4)]) ⟨rfl, ⟨rfl, ⟨rfl, trivial⟩⟩⟩ (hk88 v4 M6)
    refine J_icmp_ge (pc := 53) 88 dX1_readsWord_53 rfl (fun h => if_pos h) (fun h => if_neg h) (fun _ => ?_) (fun _ => ?_)
    · exact J_sub (A := [some (.ref 20), some (.int c1), some (.int v4)]) ⟨rfl, ⟨rfl, ⟨rfl, trivial⟩⟩⟩ (hj1 M5)
    · refine J_aload_n (pc := 56) dX1_readsWord_56 rfl ?_
      refine J_ldcS (pc := 57) (i := 1) rfl rfl dX1_readsWord_57 ?_
      refine J_callV (pc := 59) (n := 1) (b := 20) (vs := [.ref 2]) (ci := 0) (fun l => C_x_among l 2 M5) (lw_V q421 q423 qs3 q116 q424) nmv_X1_among rfl (by omega) (by decide) rfl (fun h => sh_k1 h 0 rfl) rfl (Nat.le_of_ble_eq_true rfl) dX1_readsWord_59 (fun v5 M7 => ?_)
      refine J_if_lt (pc := 62) 88 dX1_readsWord_62 rfl (fun h => if_pos h) (fun h => if_neg h) (fun _ => ?_) (fun _ => ?_)
      · exact J_sub (A := [some (.ref 20), some (.int c1), some (.int v4)]) ⟨rfl, ⟨rfl, ⟨rfl, trivial⟩⟩⟩ (hj1 M7)
      · refine J_aload_n (pc := 65) dX1_readsWord_65 rfl ?_
        refine J_get (pc := 66) (c := 0) (.ref 40) rfl in_X1 20 (by decide) q197 rfl (fun h => sh_k1 h 0 rfl) (fun h _ => fv_ref (Or.inr ⟨_, rfl⟩) (sh_r h 19 rfl)) dX1_readsWord_66 ?_
        refine J_bipush (pc := 69) 6 dX1_readsWord_69 (by decide) ?_
        refine J_iload_n (pc := 71) dX1_readsWord_71 rfl ?_
        refine J_imul (pc := 72) dX1_readsWord_72 ?_
        refine J_iload_n (pc := 73) dX1_readsWord_73 rfl ?_
        refine J_iadd (pc := 74) dX1_readsWord_74 ?_
        refine J_aload_n (pc := 75) dX1_readsWord_75 rfl ?_
        refine J_ldcS (pc := 76) (i := 1) rfl rfl dX1_readsWord_76 ?_
        refine J_callV (pc := 78) (n := 1) (b := 20) (vs := [.ref 2]) (ci := 0) (fun l => C_x_takesOf l 2 M7) (lw_V q417 q419 qs2 q116 q420) nmv_X1_takesOf rfl (by omega) (by decide) rfl (fun h => sh_k1 h 0 rfl) rfl (Nat.le_of_ble_eq_true rfl) dX1_readsWord_78 (fun v6 M8 => ?_)
        refine J_ck (fun h4 => ?_)
        refine J_iast (pc := 81) (a := 40) (fun h => sh_a h 20 rfl h4) (fun h => Sh_si h) dX1_readsWord_81 ?_
        refine J_ltM (fun M9 => ?_)
        refine J_iincL (pc := 82) (n := 1) (by decide) dX1_readsWord_82 rfl (by decide) (fun v7 => ?_)
        refine J_goto (pc := 85) 50 dX1_readsWord_85 rfl ?_
        exact J_sub (A := [some (.ref 20), some (.int c1), some (.int v7)]) ⟨rfl, ⟨rfl, ⟨rfl, trivial⟩⟩⟩ (ih v7 M9)

def x_readsWord (M : PM) : Option (Int32 × PM) :=
    lt (M.i 20 24) fun v1 =>
    if v1 = 10 then (some (0, M))
    else (bd (x_takesOf 1 M) fun v2 M1 =>
    ck v1 10 <|
    lt (M1.si 42 (ix v1) v2) fun M2 =>
    ck v1 10 <|
    if 0 ≤ (M2.i 42 (ix v1)) then (bd (x_takesOf 1 M2) fun v3 M3 =>
    ck v1 10 <|
    lt (M3.si 43 (ix v1) v3) fun M4 =>
    x_readsWord_L50 v1 (fun (v8 : Int32) (M10 : PM) =>
    ck v1 10 <|
    lt (M10.si 41 (ix v1) v8) fun M11 =>
    lt (M11.si 20 24 ((M11.i 20 24) + 1)) fun M12 =>
    if v8 ≤ 0 then (some (0, M12))
    else (some (1, M12))) FU 0 M4)
    else (some (0, M2)))

set_option maxHeartbeats 4000000 in
theorem t_x_readsWord (G : JG) (M : PM) : T_x_readsWord G  M 0 (ent [.ref 20] 3) [] (x_readsWord M) := by
  unfold x_readsWord
  refine J_aload_n (pc := 0) dX1_readsWord_0 rfl ?_
  refine J_get (pc := 1) (c := 0) (.int (M.i 20 24)) rfl in_X1 24 (by decide) q201 rfl (fun h => sh_k1 h 0 rfl) (fun _ _ => rfl) dX1_readsWord_1 ?_
  refine J_lt (β := Int32) (v := (M.i 20 24)) (L := fun _ => _) (S := fun v1 => [.int v1]) (fun v1 => ?_)
  refine J_istore_n (pc := 4) dX1_readsWord_4 (by decide) ?_
  refine J_iload_n (pc := 5) dX1_readsWord_5 rfl ?_
  refine J_bipush (pc := 6) 10 dX1_readsWord_6 (by decide) ?_
  refine J_icmp_ne (pc := 8) 13 dX1_readsWord_8 rfl (fun h => if_neg h) (fun h => if_pos h) (fun _ => ?_) (fun _ => ?_)
  · refine J_aload_n (pc := 13) dX1_readsWord_13 rfl ?_
    refine J_get (pc := 14) (c := 0) (.ref 42) rfl in_X1 22 (by decide) q199 rfl (fun h => sh_k1 h 0 rfl) (fun h _ => fv_ref (Or.inr ⟨_, rfl⟩) (sh_r h 21 rfl)) dX1_readsWord_14 ?_
    refine J_iload_n (pc := 17) dX1_readsWord_17 rfl ?_
    refine J_aload_n (pc := 18) dX1_readsWord_18 rfl ?_
    refine J_ldcS (pc := 19) (i := 0) rfl rfl dX1_readsWord_19 ?_
    refine J_callV (pc := 21) (n := 1) (b := 20) (vs := [.ref 1]) (ci := 0) (fun l => C_x_takesOf l 1 M) (lw_V q417 q419 qs2 q116 q420) nmv_X1_takesOf rfl (by omega) (by decide) rfl (fun h => sh_k1 h 0 rfl) rfl (Nat.le_of_ble_eq_true rfl) dX1_readsWord_21 (fun v2 M1 => ?_)
    refine J_ck (fun h1 => ?_)
    refine J_iast (pc := 24) (a := 42) (fun h => sh_a h 22 rfl h1) (fun h => Sh_si h) dX1_readsWord_24 ?_
    refine J_ltM (fun M2 => ?_)
    refine J_aload_n (pc := 25) dX1_readsWord_25 rfl ?_
    refine J_get (pc := 26) (c := 0) (.ref 42) rfl in_X1 22 (by decide) q199 rfl (fun h => sh_k1 h 0 rfl) (fun h _ => fv_ref (Or.inr ⟨_, rfl⟩) (sh_r h 21 rfl)) dX1_readsWord_26 ?_
    refine J_iload_n (pc := 29) dX1_readsWord_29 rfl ?_
    refine J_ck (fun h2 => ?_)
    refine J_iald (pc := 30) (a := 42) (fun h => sh_a h 22 rfl h2) dX1_readsWord_30 ?_
    refine J_if_ge (pc := 31) 36 dX1_readsWord_31 rfl (fun h => if_pos h) (fun h => if_neg h) (fun _ => ?_) (fun _ => ?_)
    · refine J_aload_n (pc := 36) dX1_readsWord_36 rfl ?_
      refine J_get (pc := 37) (c := 0) (.ref 43) rfl in_X1 23 (by decide) q200 rfl (fun h => sh_k1 h 0 rfl) (fun h _ => fv_ref (Or.inr ⟨_, rfl⟩) (sh_r h 22 rfl)) dX1_readsWord_37 ?_
      refine J_iload_n (pc := 40) dX1_readsWord_40 rfl ?_
      refine J_aload_n (pc := 41) dX1_readsWord_41 rfl ?_
      refine J_ldcS (pc := 42) (i := 0) rfl rfl dX1_readsWord_42 ?_
      refine J_callV (pc := 44) (n := 1) (b := 20) (vs := [.ref 1]) (ci := 0) (fun l => C_x_takesOf l 1 M2) (lw_V q417 q419 qs2 q116 q420) nmv_X1_takesOf rfl (by omega) (by decide) rfl (fun h => sh_k1 h 0 rfl) rfl (Nat.le_of_ble_eq_true rfl) dX1_readsWord_44 (fun v3 M3 => ?_)
      refine J_ck (fun h3 => ?_)
      refine J_iast (pc := 47) (a := 43) (fun h => sh_a h 23 rfl h3) (fun h => Sh_si h) dX1_readsWord_47 ?_
      refine J_ltM (fun M4 => ?_)
      refine J_iconst (pc := 48) 0 dX1_readsWord_48 (by decide) ?_
      refine J_istore_n (pc := 49) dX1_readsWord_49 (by decide) ?_
      refine J_sub (A := [some (.ref 20), some (.int v1), some (.int 0)]) ⟨rfl, ⟨rfl, ⟨rfl, trivial⟩⟩⟩ (t_x_readsWord_L50 G v1 _ ?_ FU 0 M4)
      · intro v8 M10
        refine J_aload_n (pc := 88) dX1_readsWord_88 rfl ?_
        refine J_get (pc := 89) (c := 0) (.ref 41) rfl in_X1 21 (by decide) q198 rfl (fun h => sh_k1 h 0 rfl) (fun h _ => fv_ref (Or.inr ⟨_, rfl⟩) (sh_r h 20 rfl)) dX1_readsWord_89 ?_
        refine J_iload_n (pc := 92) dX1_readsWord_92 rfl ?_
        refine J_iload_n (pc := 93) dX1_readsWord_93 rfl ?_
        refine J_ck (fun h5 => ?_)
        refine J_iast (pc := 94) (a := 41) (fun h => sh_a h 21 rfl h5) (fun h => Sh_si h) dX1_readsWord_94 ?_
        refine J_ltM (fun M11 => ?_)
        refine J_aload_n (pc := 95) dX1_readsWord_95 rfl ?_
        refine J_dup (pc := 96) dX1_readsWord_96 rfl ?_
        refine J_get (pc := 97) (c := 0) (.int (M11.i 20 24)) rfl in_X1 24 (by decide) q201 rfl (fun h => sh_k1 h 0 rfl) (fun _ _ => rfl) dX1_readsWord_97 ?_
        refine J_iconst (pc := 100) 1 dX1_readsWord_100 (by decide) ?_
        refine J_iadd (pc := 101) dX1_readsWord_101 ?_
        refine J_put (pc := 102) (a := 20) (v := .int ((M11.i 20 24) + 1)) (M' := M11.si 20 24 ((M11.i 20 24) + 1)) (c := 0) rfl in_X1 tyX1_ok fnX1 24 (by decide) q201 rfl (Or.inl rfl) (fun h => sh_k1 h 0 rfl) (fun _ => rfl) (fun _ => rfl) ⟨⟨rfl, rfl⟩, rfl⟩ (fun _ hb => up2_same hb) (fun _ _ => rfl) (fun _ _ => rfl) (put_i (fun _ _ _ => rfl)) (fun h => Sh_si h) dX1_readsWord_102 ?_
        refine J_ltM (fun M12 => ?_)
        refine J_iload_n (pc := 105) dX1_readsWord_105 rfl ?_
        refine J_if_le (pc := 106) 113 dX1_readsWord_106 rfl (fun h => if_pos h) (fun h => if_neg h) (fun _ => ?_) (fun _ => ?_)
        · refine J_iconst (pc := 113) 0 dX1_readsWord_113 (by decide) ?_
          exact J_zret (pc := 114) rfl dX1_readsWord_114
        · refine J_iconst (pc := 109) 1 dX1_readsWord_109 (by decide) ?_
          refine J_goto (pc := 110) 114 dX1_readsWord_110 rfl ?_
          exact J_zret (pc := 114) rfl dX1_readsWord_114
    · refine J_iconst (pc := 34) 0 dX1_readsWord_34 (by decide) ?_
      exact J_zret (pc := 35) rfl dX1_readsWord_35
  · refine J_iconst (pc := 11) 0 dX1_readsWord_11 (by decide) ?_
    exact J_zret (pc := 12) rfl dX1_readsWord_12

theorem C_x_readsWord (l : Launch) (M : PM) : Ctr l Sh yX1_readsWord cX1_readsWord 3 (some .boolean) 8 rvI [.ref 20] M (x_readsWord M) := Ctr.of (by decide +kernel) (Nat.le_of_ble_eq_true rfl) (fun G => t_x_readsWord G M)

abbrev T_x_words (G : JG) (M : PM) (pc : Nat) (L : List (Option Value)) (S : List Value) (o : Option (Int32 × PM)) : Prop := JJ G cX1_words yX1_words 6 9 (some .int) Sh (finR G Sh rvI) M pc L S o
def x_words_L25 (c1 : Int32) (k56 : Int32 → PM → Option (Int32 × PM)) : Nat → Int32 → Int32 → PM → Option (Int32 × PM)
  | 0, _, _, _ => none
  | n + 1, v2, v3, M3 =>
    if v3 = 0 then (k56 v2 M3)
    else (bd (x_readsWord M3) fun v4 M4 =>
    jn (fun (v5 : Int32) (M5 : PM) =>
    x_words_L25 c1 k56 n v4 v5 M5) fun j1 =>
    if v4 = 0 then (j1 0 M4)
    else (bd (x_eats 59 M4) fun v6 M6 =>
    if v6 = 0 then (j1 0 M6)
    else (j1 1 M6)))

set_option maxHeartbeats 4000000 in
theorem t_x_words_L25 (G : JG) (c1 : Int32) (k56 : Int32 → PM → Option (Int32 × PM)) (hk56 : ∀ z2 Me, T_x_words G  Me 56 [some (.ref 20), some (.int c1), some (.int z2), none, none, none] [] (k56 z2 Me)) : ∀ (n : Nat) (v2 : Int32) (v3 : Int32) (M3 : PM), T_x_words G  M3 25 [some (.ref 20), some (.int c1), some (.int v2), some (.int v3), none, none] [] (x_words_L25 c1 k56 n v2 v3 M3) := by
  intro n
  induction n with
  | zero =>
    intro v2 v3 M3
    exact J_none
  | succ n ih =>
    intro v2 v3 M3
    rw [x_words_L25]
    refine J_iload_n (pc := 25) dX1_words_25 rfl ?_
    refine J_if_eq (pc := 26) 56 dX1_words_26 rfl (fun h => if_pos h) (fun h => if_neg h) (fun _ => ?_) (fun _ => ?_)
    · exact J_sub (A := [some (.ref 20), some (.int c1), some (.int v2), none, none, none]) ⟨rfl, ⟨rfl, ⟨rfl, trivial⟩⟩⟩ (hk56 v2 M3)
    · refine J_aload_n (pc := 29) dX1_words_29 rfl ?_
      refine J_callV (pc := 30) (n := 0) (b := 20) (vs := []) (ci := 0) (fun l => C_x_readsWord l  M3) (lw_V q412 q414 qs1 q116 q415) nmv_X1_readsWord rfl (by omega) (by decide) rfl (fun h => sh_k1 h 0 rfl) rfl (Nat.le_of_ble_eq_true rfl) dX1_words_30 (fun v4 M4 => ?_)
      refine J_istore_n (pc := 33) dX1_words_33 (by decide) ?_
      refine J_iload_n (pc := 34) dX1_words_34 rfl ?_
      refine J_jn (P := fun J => ∀ (v5 : Int32) (M5 : PM), T_x_words G  M5 52 [some (.ref 20), some (.int c1), some (.int v4), none, none, none] [.int v5] (J v5 M5)) (fun v5 M5 => ?_) (fun j1 hj1 => ?_)
      · refine J_istore_n (pc := 52) dX1_words_52 (by decide) ?_
        refine J_goto (pc := 53) 25 dX1_words_53 rfl ?_
        exact J_sub (A := [some (.ref 20), some (.int c1), some (.int v4), some (.int v5), none, none]) ⟨rfl, ⟨rfl, ⟨rfl, ⟨rfl, trivial⟩⟩⟩⟩ (ih v4 v5 M5)
      refine J_if_eq (pc := 35) 51 dX1_words_35 rfl (fun h => if_pos h) (fun h => if_neg h) (fun _ => ?_) (fun _ => ?_)
      · refine J_iconst (pc := 51) 0 dX1_words_51 (by decide) ?_
        exact J_sub (A := [some (.ref 20), some (.int c1), some (.int v4), none, none, none]) ⟨rfl, ⟨rfl, ⟨rfl, trivial⟩⟩⟩ (hj1 0 M4)
      · refine J_aload_n (pc := 38) dX1_words_38 rfl ?_
        refine J_bipush (pc := 39) 59 dX1_words_39 (by decide) ?_
        refine J_callV (pc := 41) (n := 1) (b := 20) (vs := [.int 59]) (ci := 0) (fun l => C_x_eats l 59 M4) (lw_V q510 q512 qs4 q116 q513) nmv_X1_eats rfl (by omega) (by decide) rfl (fun h => sh_k1 h 0 rfl) rfl (Nat.le_of_ble_eq_true rfl) dX1_words_41 (fun v6 M6 => ?_)
        refine J_if_eq (pc := 44) 51 dX1_words_44 rfl (fun h => if_pos h) (fun h => if_neg h) (fun _ => ?_) (fun _ => ?_)
        · refine J_iconst (pc := 51) 0 dX1_words_51 (by decide) ?_
          exact J_sub (A := [some (.ref 20), some (.int c1), some (.int v4), none, none, none]) ⟨rfl, ⟨rfl, ⟨rfl, trivial⟩⟩⟩ (hj1 0 M6)
        · refine J_iconst (pc := 47) 1 dX1_words_47 (by decide) ?_
          refine J_goto (pc := 48) 52 dX1_words_48 rfl ?_
          exact J_sub (A := [some (.ref 20), some (.int c1), some (.int v4), none, none, none]) ⟨rfl, ⟨rfl, ⟨rfl, trivial⟩⟩⟩ (hj1 1 M6)

def x_words_L83 (c5 : Int32) (k188 : PM → Option (Int32 × PM)) : Nat → PM → Option (Int32 × PM)
  | 0, _ => none
  | n + 1, M9 =>
    if (M9.i 20 24) ≤ (M9.i 20 11) then (k188 M9)
    else (ckc M9 40 (6 * (M9.i 20 11)) 31 (6 * (M9.i 20 11)) 6 <|
    lt (M9.ci 40 (ix (6 * (M9.i 20 11))) 31 (ix (6 * (M9.i 20 11))) (ix 6)) fun M10 =>
    ck (M10.i 20 11) 10 <|
    ck (M10.i 20 11) 10 <|
    lt (M10.si 32 (ix (M10.i 20 11)) (M10.i 41 (ix (M10.i 20 11)))) fun M11 =>
    ck (M11.i 20 11) 10 <|
    ck (M11.i 20 11) 10 <|
    lt (M11.si 33 (ix (M11.i 20 11)) (M11.i 42 (ix (M11.i 20 11)))) fun M12 =>
    ck (M12.i 20 11) 10 <|
    ck (M12.i 20 11) 10 <|
    lt (M12.si 34 (ix (M12.i 20 11)) (M12.i 43 (ix (M12.i 20 11)))) fun M13 =>
    lt (M13.si 20 11 ((M13.i 20 11) + 1)) fun M14 =>
    x_words_L83 c5 k188 n M14)

set_option maxHeartbeats 4000000 in
theorem t_x_words_L83 (G : JG) (c5 : Int32) (k188 : PM → Option (Int32 × PM)) (hk188 : ∀ Me, T_x_words G  Me 188 [some (.ref 20), none, none, none, none, some (.int c5)] [] (k188 Me)) : ∀ (n : Nat) (M9 : PM), T_x_words G  M9 83 [some (.ref 20), none, none, none, none, some (.int c5)] [] (x_words_L83 c5 k188 n  M9) := by
  intro n
  induction n with
  | zero =>
    intro M9
    exact J_none
  | succ n ih =>
    intro M9
    rw [x_words_L83]
    refine J_aload_n (pc := 83) dX1_words_83 rfl ?_
    refine J_get (pc := 84) (c := 0) (.int (M9.i 20 11)) rfl in_X1 11 (by decide) q188 rfl (fun h => sh_k1 h 0 rfl) (fun _ _ => rfl) dX1_words_84 ?_
    refine J_aload_n (pc := 87) dX1_words_87 rfl ?_
    refine J_get (pc := 88) (c := 0) (.int (M9.i 20 24)) rfl in_X1 24 (by decide) q201 rfl (fun h => sh_k1 h 0 rfl) (fun _ _ => rfl) dX1_words_88 ?_
    refine J_icmp_ge (pc := 91) 188 dX1_words_91 rfl (fun h => if_pos h) (fun h => if_neg h) (fun _ => ?_) (fun _ => ?_)
    · exact J_sub (A := [some (.ref 20), none, none, none, none, some (.int c5)]) ⟨rfl, ⟨rfl, trivial⟩⟩ (hk188 M9)
    · refine J_aload_n (pc := 94) dX1_words_94 rfl ?_
      refine J_get (pc := 95) (c := 0) (.ref 40) rfl in_X1 20 (by decide) q197 rfl (fun h => sh_k1 h 0 rfl) (fun h _ => fv_ref (Or.inr ⟨_, rfl⟩) (sh_r h 19 rfl)) dX1_words_95 ?_
      refine J_bipush (pc := 98) 6 dX1_words_98 (by decide) ?_
      refine J_aload_n (pc := 100) dX1_words_100 rfl ?_
      refine J_get (pc := 101) (c := 0) (.int (M9.i 20 11)) rfl in_X1 11 (by decide) q188 rfl (fun h => sh_k1 h 0 rfl) (fun _ _ => rfl) dX1_words_101 ?_
      refine J_imul (pc := 104) dX1_words_104 ?_
      refine J_aload_n (pc := 105) dX1_words_105 rfl ?_
      refine J_get (pc := 106) (c := 0) (.ref 31) rfl in_X1 2 (by decide) q179 rfl (fun h => sh_k1 h 0 rfl) (fun h _ => fv_ref (Or.inr ⟨_, rfl⟩) (sh_r h 10 rfl)) dX1_words_106 ?_
      refine J_bipush (pc := 109) 6 dX1_words_109 (by decide) ?_
      refine J_aload_n (pc := 111) dX1_words_111 rfl ?_
      refine J_get (pc := 112) (c := 0) (.int (M9.i 20 11)) rfl in_X1 11 (by decide) q188 rfl (fun h => sh_k1 h 0 rfl) (fun _ _ => rfl) dX1_words_112 ?_
      refine J_imul (pc := 115) dX1_words_115 ?_
      refine J_bipush (pc := 116) 6 dX1_words_116 (by decide) ?_
      refine J_ckc (fun h1 => ?_)
      refine J_copy (pc := 118) (by omega) q522 q524 q523 q125 h1 (Nat.le_of_ble_eq_true rfl) (fun h => Sh_ci h) dX1_words_118 ?_
      refine J_ltM (fun M10 => ?_)
      refine J_aload_n (pc := 121) dX1_words_121 rfl ?_
      refine J_get (pc := 122) (c := 0) (.ref 32) rfl in_X1 3 (by decide) q180 rfl (fun h => sh_k1 h 0 rfl) (fun h _ => fv_ref (Or.inr ⟨_, rfl⟩) (sh_r h 11 rfl)) dX1_words_122 ?_
      refine J_aload_n (pc := 125) dX1_words_125 rfl ?_
      refine J_get (pc := 126) (c := 0) (.int (M10.i 20 11)) rfl in_X1 11 (by decide) q188 rfl (fun h => sh_k1 h 0 rfl) (fun _ _ => rfl) dX1_words_126 ?_
      refine J_aload_n (pc := 129) dX1_words_129 rfl ?_
      refine J_get (pc := 130) (c := 0) (.ref 41) rfl in_X1 21 (by decide) q198 rfl (fun h => sh_k1 h 0 rfl) (fun h _ => fv_ref (Or.inr ⟨_, rfl⟩) (sh_r h 20 rfl)) dX1_words_130 ?_
      refine J_aload_n (pc := 133) dX1_words_133 rfl ?_
      refine J_get (pc := 134) (c := 0) (.int (M10.i 20 11)) rfl in_X1 11 (by decide) q188 rfl (fun h => sh_k1 h 0 rfl) (fun _ _ => rfl) dX1_words_134 ?_
      refine J_ck (fun h2 => ?_)
      refine J_iald (pc := 137) (a := 41) (fun h => sh_a h 21 rfl h2) dX1_words_137 ?_
      refine J_ck (fun h3 => ?_)
      refine J_iast (pc := 138) (a := 32) (fun h => sh_a h 12 rfl h3) (fun h => Sh_si h) dX1_words_138 ?_
      refine J_ltM (fun M11 => ?_)
      refine J_aload_n (pc := 139) dX1_words_139 rfl ?_
      refine J_get (pc := 140) (c := 0) (.ref 33) rfl in_X1 4 (by decide) q181 rfl (fun h => sh_k1 h 0 rfl) (fun h _ => fv_ref (Or.inr ⟨_, rfl⟩) (sh_r h 12 rfl)) dX1_words_140 ?_
      refine J_aload_n (pc := 143) dX1_words_143 rfl ?_
      refine J_get (pc := 144) (c := 0) (.int (M11.i 20 11)) rfl in_X1 11 (by decide) q188 rfl (fun h => sh_k1 h 0 rfl) (fun _ _ => rfl) dX1_words_144 ?_
      refine J_aload_n (pc := 147) dX1_words_147 rfl ?_
      refine J_get (pc := 148) (c := 0) (.ref 42) rfl in_X1 22 (by decide) q199 rfl (fun h => sh_k1 h 0 rfl) (fun h _ => fv_ref (Or.inr ⟨_, rfl⟩) (sh_r h 21 rfl)) dX1_words_148 ?_
      refine J_aload_n (pc := 151) dX1_words_151 rfl ?_
      refine J_get (pc := 152) (c := 0) (.int (M11.i 20 11)) rfl in_X1 11 (by decide) q188 rfl (fun h => sh_k1 h 0 rfl) (fun _ _ => rfl) dX1_words_152 ?_
      refine J_ck (fun h4 => ?_)
      refine J_iald (pc := 155) (a := 42) (fun h => sh_a h 22 rfl h4) dX1_words_155 ?_
      refine J_ck (fun h5 => ?_)
      refine J_iast (pc := 156) (a := 33) (fun h => sh_a h 13 rfl h5) (fun h => Sh_si h) dX1_words_156 ?_
      refine J_ltM (fun M12 => ?_)
      refine J_aload_n (pc := 157) dX1_words_157 rfl ?_
      refine J_get (pc := 158) (c := 0) (.ref 34) rfl in_X1 5 (by decide) q182 rfl (fun h => sh_k1 h 0 rfl) (fun h _ => fv_ref (Or.inr ⟨_, rfl⟩) (sh_r h 13 rfl)) dX1_words_158 ?_
      refine J_aload_n (pc := 161) dX1_words_161 rfl ?_
      refine J_get (pc := 162) (c := 0) (.int (M12.i 20 11)) rfl in_X1 11 (by decide) q188 rfl (fun h => sh_k1 h 0 rfl) (fun _ _ => rfl) dX1_words_162 ?_
      refine J_aload_n (pc := 165) dX1_words_165 rfl ?_
      refine J_get (pc := 166) (c := 0) (.ref 43) rfl in_X1 23 (by decide) q200 rfl (fun h => sh_k1 h 0 rfl) (fun h _ => fv_ref (Or.inr ⟨_, rfl⟩) (sh_r h 22 rfl)) dX1_words_166 ?_
      refine J_aload_n (pc := 169) dX1_words_169 rfl ?_
      refine J_get (pc := 170) (c := 0) (.int (M12.i 20 11)) rfl in_X1 11 (by decide) q188 rfl (fun h => sh_k1 h 0 rfl) (fun _ _ => rfl) dX1_words_170 ?_
      refine J_ck (fun h6 => ?_)
      refine J_iald (pc := 173) (a := 43) (fun h => sh_a h 23 rfl h6) dX1_words_173 ?_
      refine J_ck (fun h7 => ?_)
      refine J_iast (pc := 174) (a := 34) (fun h => sh_a h 14 rfl h7) (fun h => Sh_si h) dX1_words_174 ?_
      refine J_ltM (fun M13 => ?_)
      refine J_aload_n (pc := 175) dX1_words_175 rfl ?_
      refine J_dup (pc := 176) dX1_words_176 rfl ?_
      refine J_get (pc := 177) (c := 0) (.int (M13.i 20 11)) rfl in_X1 11 (by decide) q188 rfl (fun h => sh_k1 h 0 rfl) (fun _ _ => rfl) dX1_words_177 ?_
      refine J_iconst (pc := 180) 1 dX1_words_180 (by decide) ?_
      refine J_iadd (pc := 181) dX1_words_181 ?_
      refine J_put (pc := 182) (a := 20) (v := .int ((M13.i 20 11) + 1)) (M' := M13.si 20 11 ((M13.i 20 11) + 1)) (c := 0) rfl in_X1 tyX1_ok fnX1 11 (by decide) q188 rfl (Or.inl rfl) (fun h => sh_k1 h 0 rfl) (fun _ => rfl) (fun _ => rfl) ⟨⟨rfl, rfl⟩, rfl⟩ (fun _ hb => up2_same hb) (fun _ _ => rfl) (fun _ _ => rfl) (put_i (fun _ _ _ => rfl)) (fun h => Sh_si h) dX1_words_182 ?_
      refine J_ltM (fun M14 => ?_)
      refine J_goto (pc := 185) 83 dX1_words_185 rfl ?_
      exact J_sub (A := [some (.ref 20), none, none, none, none, some (.int c5)]) ⟨rfl, ⟨rfl, trivial⟩⟩ (ih M14)

def x_words (M : PM) : Option (Int32 × PM) :=
    bd (x_begins 76 M) fun v1 M1 =>
    if v1 = 0 then (some (0, M1))
    else (lt (M1.si 20 24 (M1.i 20 11)) fun M2 =>
    x_words_L25 v1 (fun (v7 : Int32) (M7 : PM) =>
    bd (x_faultOf v1 v7 M7) fun v8 M8 =>
    if 0 ≤ v8 then (lt ((M8.i 20 24) - (M8.i 20 11)) fun v9 =>
    x_words_L83 v9 (fun (M15 : PM) =>
    bd (x_isNew M15) fun _ M16 =>
    some (v9, M16)) FU M8)
    else (some (v8, M8))) FU 1 1 M2)

set_option maxHeartbeats 4000000 in
theorem t_x_words (G : JG) (M : PM) : T_x_words G  M 0 (ent [.ref 20] 6) [] (x_words M) := by
  unfold x_words
  refine J_aload_n (pc := 0) dX1_words_0 rfl ?_
  refine J_bipush (pc := 1) 76 dX1_words_1 (by decide) ?_
  refine J_callV (pc := 3) (n := 1) (b := 20) (vs := [.int 76]) (ci := 0) (fun l => C_x_begins l 76 M) (lw_V q405 q407 qs0 q116 q408) nmv_X1_begins rfl (by omega) (by decide) rfl (fun h => sh_k1 h 0 rfl) rfl (Nat.le_of_ble_eq_true rfl) dX1_words_3 (fun v1 M1 => ?_)
  refine J_istore_n (pc := 6) dX1_words_6 (by decide) ?_
  refine J_iload_n (pc := 7) dX1_words_7 rfl ?_
  refine J_if_ne (pc := 8) 13 dX1_words_8 rfl (fun h => if_neg h) (fun h => if_pos h) (fun _ => ?_) (fun _ => ?_)
  · refine J_aload_n (pc := 13) dX1_words_13 rfl ?_
    refine J_aload_n (pc := 14) dX1_words_14 rfl ?_
    refine J_get (pc := 15) (c := 0) (.int (M1.i 20 11)) rfl in_X1 11 (by decide) q188 rfl (fun h => sh_k1 h 0 rfl) (fun _ _ => rfl) dX1_words_15 ?_
    refine J_put (pc := 18) (a := 20) (v := .int (M1.i 20 11)) (M' := M1.si 20 24 (M1.i 20 11)) (c := 0) rfl in_X1 tyX1_ok fnX1 24 (by decide) q201 rfl (Or.inl rfl) (fun h => sh_k1 h 0 rfl) (fun _ => rfl) (fun _ => rfl) ⟨⟨rfl, rfl⟩, rfl⟩ (fun _ hb => up2_same hb) (fun _ _ => rfl) (fun _ _ => rfl) (put_i (fun _ _ _ => rfl)) (fun h => Sh_si h) dX1_words_18 ?_
    refine J_ltM (fun M2 => ?_)
    refine J_iconst (pc := 21) 1 dX1_words_21 (by decide) ?_
    refine J_istore_n (pc := 22) dX1_words_22 (by decide) ?_
    refine J_iconst (pc := 23) 1 dX1_words_23 (by decide) ?_
    refine J_istore_n (pc := 24) dX1_words_24 (by decide) ?_
    refine J_sub (A := [some (.ref 20), some (.int v1), some (.int 1), some (.int 1), none, none]) ⟨rfl, ⟨rfl, ⟨rfl, ⟨rfl, trivial⟩⟩⟩⟩ (t_x_words_L25 G v1 _ ?_ FU 1 1 M2)
    · intro v7 M7
      refine J_aload_n (pc := 56) dX1_words_56 rfl ?_
      refine J_iload_n (pc := 57) dX1_words_57 rfl ?_
      refine J_iload_n (pc := 58) dX1_words_58 rfl ?_
      refine J_callV (pc := 59) (n := 2) (b := 20) (vs := [.int v1, .int v7]) (ci := 0) (fun l => C_x_faultOf l v1 v7 M7) (lw_V q518 q520 qs6 q116 q521) nmv_X1_faultOf rfl (by omega) (by decide) rfl (fun h => sh_k1 h 0 rfl) rfl (Nat.le_of_ble_eq_true rfl) dX1_words_59 (fun v8 M8 => ?_)
      refine J_istore (pc := 62) dX1_words_62 (by decide) ?_
      refine J_iload (pc := 64) dX1_words_64 rfl ?_
      refine J_if_ge (pc := 66) 72 dX1_words_66 rfl (fun h => if_pos h) (fun h => if_neg h) (fun _ => ?_) (fun _ => ?_)
      · refine J_aload_n (pc := 72) dX1_words_72 rfl ?_
        refine J_get (pc := 73) (c := 0) (.int (M8.i 20 24)) rfl in_X1 24 (by decide) q201 rfl (fun h => sh_k1 h 0 rfl) (fun _ _ => rfl) dX1_words_73 ?_
        refine J_aload_n (pc := 76) dX1_words_76 rfl ?_
        refine J_get (pc := 77) (c := 0) (.int (M8.i 20 11)) rfl in_X1 11 (by decide) q188 rfl (fun h => sh_k1 h 0 rfl) (fun _ _ => rfl) dX1_words_77 ?_
        refine J_isub (pc := 80) dX1_words_80 ?_
        refine J_lt (β := Int32) (v := ((M8.i 20 24) - (M8.i 20 11))) (L := fun _ => _) (S := fun v9 => [.int v9]) (fun v9 => ?_)
        refine J_istore (pc := 81) dX1_words_81 (by decide) ?_
        refine J_sub (A := [some (.ref 20), none, none, none, none, some (.int v9)]) ⟨rfl, ⟨rfl, trivial⟩⟩ (t_x_words_L83 G v9 _ ?_ FU M8)
        · intro M15
          refine J_aload_n (pc := 188) dX1_words_188 rfl ?_
          refine J_callV (pc := 189) (n := 0) (b := 20) (vs := []) (ci := 0) (fun l => C_x_isNew l  M15) (lw_V q525 q527 qs7 q116 q528) nmv_X1_isNew rfl (by omega) (by decide) rfl (fun h => sh_k1 h 0 rfl) rfl (Nat.le_of_ble_eq_true rfl) dX1_words_189 (fun _ M16 => ?_)
          refine J_iload (pc := 192) dX1_words_192 rfl ?_
          exact J_iret (pc := 194) dX1_words_194
      · refine J_iload (pc := 69) dX1_words_69 rfl ?_
        exact J_iret (pc := 71) dX1_words_71
  · refine J_iconst (pc := 11) 0 dX1_words_11 (by decide) ?_
    exact J_iret (pc := 12) dX1_words_12

theorem C_x_words (l : Launch) (M : PM) : Ctr l Sh yX1_words cX1_words 6 (some .int) 9 rvI [.ref 20] M (x_words M) := Ctr.of (by decide +kernel) (Nat.le_of_ble_eq_true rfl) (fun G => t_x_words G M)

abbrev T_x_isDigit (G : JG) (M : PM) (pc : Nat) (L : List (Option Value)) (S : List Value) (o : Option (Int32 × PM)) : Prop := JJ G cX1_isDigit yX1_isDigit 1 2 (some .boolean) Sh (finR G Sh rvI) M pc L S o
def x_isDigit (M : PM) : Option (Int32 × PM) :=
    if (M.i 20 18) ≤ (M.i 20 17) then (some (0, M))
    else (ck (M.i 20 17) 80 <|
    bd (x_in (Int32.toInt64 (M.i 39 (ix (M.i 20 17)))) 48 57 M) fun v1 M1 =>
    if v1 = 0 then (some (0, M1))
    else (some (1, M1)))

set_option maxHeartbeats 4000000 in
theorem t_x_isDigit (G : JG) (M : PM) : T_x_isDigit G  M 0 (ent [.ref 20] 1) [] (x_isDigit M) := by
  unfold x_isDigit
  refine J_aload_n (pc := 0) dX1_isDigit_0 rfl ?_
  refine J_get (pc := 1) (c := 0) (.int (M.i 20 17)) rfl in_X1 17 (by decide) q194 rfl (fun h => sh_k1 h 0 rfl) (fun _ _ => rfl) dX1_isDigit_1 ?_
  refine J_aload_n (pc := 4) dX1_isDigit_4 rfl ?_
  refine J_get (pc := 5) (c := 0) (.int (M.i 20 18)) rfl in_X1 18 (by decide) q195 rfl (fun h => sh_k1 h 0 rfl) (fun _ _ => rfl) dX1_isDigit_5 ?_
  refine J_icmp_ge (pc := 8) 37 dX1_isDigit_8 rfl (fun h => if_pos h) (fun h => if_neg h) (fun _ => ?_) (fun _ => ?_)
  · refine J_iconst (pc := 37) 0 dX1_isDigit_37 (by decide) ?_
    exact J_zret (pc := 38) rfl dX1_isDigit_38
  · refine J_aload_n (pc := 11) dX1_isDigit_11 rfl ?_
    refine J_get (pc := 12) (c := 0) (.ref 39) rfl in_X1 15 (by decide) q192 rfl (fun h => sh_k1 h 0 rfl) (fun h _ => fv_ref (Or.inr ⟨_, rfl⟩) (sh_r h 18 rfl)) dX1_isDigit_12 ?_
    refine J_aload_n (pc := 15) dX1_isDigit_15 rfl ?_
    refine J_get (pc := 16) (c := 0) (.int (M.i 20 17)) rfl in_X1 17 (by decide) q194 rfl (fun h => sh_k1 h 0 rfl) (fun _ _ => rfl) dX1_isDigit_16 ?_
    refine J_ck (fun h1 => ?_)
    refine J_iald (pc := 19) (a := 39) (fun h => sh_a h 19 rfl h1) dX1_isDigit_19 ?_
    refine J_i2l (pc := 20) dX1_isDigit_20 ?_
    refine J_ldc2 (pc := 21) 48 q550 dX1_isDigit_21 ?_
    refine J_ldc2 (pc := 24) 57 q551 dX1_isDigit_24 ?_
    refine J_callS (pc := 27) (n := 3) (vs := [.long (Int32.toInt64 (M.i 39 (ix (M.i 20 17)))), .long 48, .long 57]) (fun l => C_x_in l (Int32.toInt64 (M.i 39 (ix (M.i 20 17)))) 48 57 M) (lw_S q398 q399 q116 q400) nmh_X1_in rfl (by omega) (by decide) rfl (Nat.le_of_ble_eq_true rfl) dX1_isDigit_27 (fun v1 M1 => ?_)
    refine J_if_eq (pc := 30) 37 dX1_isDigit_30 rfl (fun h => if_pos h) (fun h => if_neg h) (fun _ => ?_) (fun _ => ?_)
    · refine J_iconst (pc := 37) 0 dX1_isDigit_37 (by decide) ?_
      exact J_zret (pc := 38) rfl dX1_isDigit_38
    · refine J_iconst (pc := 33) 1 dX1_isDigit_33 (by decide) ?_
      refine J_goto (pc := 34) 38 dX1_isDigit_34 rfl ?_
      exact J_zret (pc := 38) rfl dX1_isDigit_38

theorem C_x_isDigit (l : Launch) (M : PM) : Ctr l Sh yX1_isDigit cX1_isDigit 1 (some .boolean) 2 rvI [.ref 20] M (x_isDigit M) := Ctr.of (by decide +kernel) (Nat.le_of_ble_eq_true rfl) (fun G => t_x_isDigit G M)

abbrev T_x_number (G : JG) (M : PM) (pc : Nat) (L : List (Option Value)) (S : List Value) (o : Option (Int32 × PM)) : Prop := JJ G cX1_number yX1_number 4 3 (some .int) Sh (finR G Sh rvI) M pc L S o
def x_number_L13 (c1 : Int32) : Nat → Int32 → Int32 → PM → Option (Int32 × PM)
  | 0, _, _, _ => none
  | n + 1, v2, v3, M2 =>
    if c1 ≤ v3 then (some (v2, M2))
    else (bd (x_isDigit M2) fun v4 M3 =>
    if v4 = 0 then (some (v2, M3))
    else (ck (M3.i 20 17) 80 <|
    lt (((10 * v2) + (M3.i 39 (ix (M3.i 20 17)))) - 48) fun v5 =>
    lt (M3.si 20 17 ((M3.i 20 17) + 1)) fun M4 =>
    lt (v3 + 1) fun v6 =>
    x_number_L13 c1 n v5 v6 M4))

set_option maxHeartbeats 4000000 in
theorem t_x_number_L13 (G : JG) (c1 : Int32) : ∀ (n : Nat) (v2 : Int32) (v3 : Int32) (M2 : PM), T_x_number G  M2 13 [some (.ref 20), some (.int c1), some (.int v2), some (.int v3)] [] (x_number_L13 c1 n v2 v3 M2) := by
  intro n
  induction n with
  | zero =>
    intro v2 v3 M2
    exact J_none
  | succ n ih =>
    intro v2 v3 M2
    rw [x_number_L13]
    refine J_iload_n (pc := 13) dX1_number_13 rfl ?_
    refine J_iload_n (pc := 14) dX1_number_14 rfl ?_
    refine J_icmp_ge (pc := 15) 59 dX1_number_15 rfl (fun h => if_pos h) (fun h => if_neg h) (fun _ => ?_) (fun _ => ?_)
    · refine J_iload_n (pc := 59) dX1_number_59 rfl ?_
      exact J_iret (pc := 60) dX1_number_60
    · refine J_aload_n (pc := 18) dX1_number_18 rfl ?_
      refine J_callV (pc := 19) (n := 0) (b := 20) (vs := []) (ci := 0) (fun l => C_x_isDigit l  M2) (lw_V q546 q548 qs11 q116 q549) nmv_X1_isDigit rfl (by omega) (by decide) rfl (fun h => sh_k1 h 0 rfl) rfl (Nat.le_of_ble_eq_true rfl) dX1_number_19 (fun v4 M3 => ?_)
      refine J_if_eq (pc := 22) 59 dX1_number_22 rfl (fun h => if_pos h) (fun h => if_neg h) (fun _ => ?_) (fun _ => ?_)
      · refine J_iload_n (pc := 59) dX1_number_59 rfl ?_
        exact J_iret (pc := 60) dX1_number_60
      · refine J_bipush (pc := 25) 10 dX1_number_25 (by decide) ?_
        refine J_iload_n (pc := 27) dX1_number_27 rfl ?_
        refine J_imul (pc := 28) dX1_number_28 ?_
        refine J_aload_n (pc := 29) dX1_number_29 rfl ?_
        refine J_get (pc := 30) (c := 0) (.ref 39) rfl in_X1 15 (by decide) q192 rfl (fun h => sh_k1 h 0 rfl) (fun h _ => fv_ref (Or.inr ⟨_, rfl⟩) (sh_r h 18 rfl)) dX1_number_30 ?_
        refine J_aload_n (pc := 33) dX1_number_33 rfl ?_
        refine J_get (pc := 34) (c := 0) (.int (M3.i 20 17)) rfl in_X1 17 (by decide) q194 rfl (fun h => sh_k1 h 0 rfl) (fun _ _ => rfl) dX1_number_34 ?_
        refine J_ck (fun h1 => ?_)
        refine J_iald (pc := 37) (a := 39) (fun h => sh_a h 19 rfl h1) dX1_number_37 ?_
        refine J_iadd (pc := 38) dX1_number_38 ?_
        refine J_bipush (pc := 39) 48 dX1_number_39 (by decide) ?_
        refine J_isub (pc := 41) dX1_number_41 ?_
        refine J_lt (β := Int32) (v := (((10 * v2) + (M3.i 39 (ix (M3.i 20 17)))) - 48)) (L := fun _ => _) (S := fun v5 => [.int v5]) (fun v5 => ?_)
        refine J_istore_n (pc := 42) dX1_number_42 (by decide) ?_
        refine J_aload_n (pc := 43) dX1_number_43 rfl ?_
        refine J_dup (pc := 44) dX1_number_44 rfl ?_
        refine J_get (pc := 45) (c := 0) (.int (M3.i 20 17)) rfl in_X1 17 (by decide) q194 rfl (fun h => sh_k1 h 0 rfl) (fun _ _ => rfl) dX1_number_45 ?_
        refine J_iconst (pc := 48) 1 dX1_number_48 (by decide) ?_
        refine J_iadd (pc := 49) dX1_number_49 ?_
        refine J_put (pc := 50) (a := 20) (v := .int ((M3.i 20 17) + 1)) (M' := M3.si 20 17 ((M3.i 20 17) + 1)) (c := 0) rfl in_X1 tyX1_ok fnX1 17 (by decide) q194 rfl (Or.inl rfl) (fun h => sh_k1 h 0 rfl) (fun _ => rfl) (fun _ => rfl) ⟨⟨rfl, rfl⟩, rfl⟩ (fun _ hb => up2_same hb) (fun _ _ => rfl) (fun _ _ => rfl) (put_i (fun _ _ _ => rfl)) (fun h => Sh_si h) dX1_number_50 ?_
        refine J_ltM (fun M4 => ?_)
        refine J_iincL (pc := 53) (n := 1) (by decide) dX1_number_53 rfl (by decide) (fun v6 => ?_)
        refine J_goto (pc := 56) 13 dX1_number_56 rfl ?_
        exact J_sub (A := [some (.ref 20), some (.int c1), some (.int v5), some (.int v6)]) ⟨rfl, ⟨rfl, ⟨rfl, ⟨rfl, trivial⟩⟩⟩⟩ (ih v5 v6 M4)

def x_number (p1 : Int32) (M : PM) : Option (Int32 × PM) :=
    bd (x_isDigit M) fun v1 M1 =>
    if v1 = 0 then (some ((-1), M1))
    else (x_number_L13 p1 FU 0 0 M1)

set_option maxHeartbeats 4000000 in
theorem t_x_number (G : JG) (p1 : Int32) (M : PM) : T_x_number G  M 0 (ent [.ref 20, .int p1] 4) [] (x_number p1 M) := by
  unfold x_number
  refine J_aload_n (pc := 0) dX1_number_0 rfl ?_
  refine J_callV (pc := 1) (n := 0) (b := 20) (vs := []) (ci := 0) (fun l => C_x_isDigit l  M) (lw_V q546 q548 qs11 q116 q549) nmv_X1_isDigit rfl (by omega) (by decide) rfl (fun h => sh_k1 h 0 rfl) rfl (Nat.le_of_ble_eq_true rfl) dX1_number_1 (fun v1 M1 => ?_)
  refine J_if_ne (pc := 4) 9 dX1_number_4 rfl (fun h => if_neg h) (fun h => if_pos h) (fun _ => ?_) (fun _ => ?_)
  · refine J_iconst (pc := 9) 0 dX1_number_9 (by decide) ?_
    refine J_istore_n (pc := 10) dX1_number_10 (by decide) ?_
    refine J_iconst (pc := 11) 0 dX1_number_11 (by decide) ?_
    refine J_istore_n (pc := 12) dX1_number_12 (by decide) ?_
    refine J_sub (A := [some (.ref 20), some (.int p1), some (.int 0), some (.int 0)]) ⟨rfl, ⟨rfl, ⟨rfl, ⟨rfl, trivial⟩⟩⟩⟩ (t_x_number_L13 G p1  FU 0 0 M1)
  · refine J_iconst (pc := 7) (-1) dX1_number_7 (by decide) ?_
    exact J_iret (pc := 8) dX1_number_8

theorem C_x_number (l : Launch) (p1 : Int32) (M : PM) : Ctr l Sh yX1_number cX1_number 4 (some .int) 3 rvI [.ref 20, .int p1] M (x_number p1 M) := Ctr.of (by decide +kernel) (Nat.le_of_ble_eq_true rfl) (fun G => t_x_number G p1 M)

abbrev T_x_readsStation (G : JG) (M : PM) (pc : Nat) (L : List (Option Value)) (S : List Value) (o : Option (Int32 × PM)) : Prop := JJ G cX1_readsStation yX1_readsStation 1 8 (some .int) Sh (finR G Sh rvI) M pc L S o
def x_readsStation (M : PM) : Option (Int32 × PM) :=
    bd (x_among 1 M) fun v1 M1 =>
    bd (x_in (Int32.toInt64 v1) 0 (Int32.toInt64 ((M1.i 20 10) - 1)) M1) fun v2 M2 =>
    if v2 = 0 then (some ((-1), M2))
    else (bd (x_takesOf 1 M2) fun v3 M3 =>
    some (v3, M3))

set_option maxHeartbeats 4000000 in
theorem t_x_readsStation (G : JG) (M : PM) : T_x_readsStation G  M 0 (ent [.ref 20] 1) [] (x_readsStation M) := by
  unfold x_readsStation
  refine J_aload_n (pc := 0) dX1_readsStation_0 rfl ?_
  refine J_ldcS (pc := 1) (i := 0) rfl rfl dX1_readsStation_1 ?_
  refine J_callV (pc := 3) (n := 1) (b := 20) (vs := [.ref 1]) (ci := 0) (fun l => C_x_among l 1 M) (lw_V q421 q423 qs3 q116 q424) nmv_X1_among rfl (by omega) (by decide) rfl (fun h => sh_k1 h 0 rfl) rfl (Nat.le_of_ble_eq_true rfl) dX1_readsStation_3 (fun v1 M1 => ?_)
  refine J_i2l (pc := 6) dX1_readsStation_6 ?_
  refine J_lconst (pc := 7) 0 dX1_readsStation_7 (by decide) ?_
  refine J_aload_n (pc := 8) dX1_readsStation_8 rfl ?_
  refine J_get (pc := 9) (c := 0) (.int (M1.i 20 10)) rfl in_X1 10 (by decide) q187 rfl (fun h => sh_k1 h 0 rfl) (fun _ _ => rfl) dX1_readsStation_9 ?_
  refine J_iconst (pc := 12) 1 dX1_readsStation_12 (by decide) ?_
  refine J_isub (pc := 13) dX1_readsStation_13 ?_
  refine J_i2l (pc := 14) dX1_readsStation_14 ?_
  refine J_callS (pc := 15) (n := 3) (vs := [.long (Int32.toInt64 v1), .long 0, .long (Int32.toInt64 ((M1.i 20 10) - 1))]) (fun l => C_x_in l (Int32.toInt64 v1) 0 (Int32.toInt64 ((M1.i 20 10) - 1)) M1) (lw_S q398 q399 q116 q400) nmh_X1_in rfl (by omega) (by decide) rfl (Nat.le_of_ble_eq_true rfl) dX1_readsStation_15 (fun v2 M2 => ?_)
  refine J_if_eq (pc := 18) 30 dX1_readsStation_18 rfl (fun h => if_pos h) (fun h => if_neg h) (fun _ => ?_) (fun _ => ?_)
  · refine J_iconst (pc := 30) (-1) dX1_readsStation_30 (by decide) ?_
    exact J_iret (pc := 31) dX1_readsStation_31
  · refine J_aload_n (pc := 21) dX1_readsStation_21 rfl ?_
    refine J_ldcS (pc := 22) (i := 0) rfl rfl dX1_readsStation_22 ?_
    refine J_callV (pc := 24) (n := 1) (b := 20) (vs := [.ref 1]) (ci := 0) (fun l => C_x_takesOf l 1 M2) (lw_V q417 q419 qs2 q116 q420) nmv_X1_takesOf rfl (by omega) (by decide) rfl (fun h => sh_k1 h 0 rfl) rfl (Nat.le_of_ble_eq_true rfl) dX1_readsStation_24 (fun v3 M3 => ?_)
    refine J_goto (pc := 27) 31 dX1_readsStation_27 rfl ?_
    exact J_iret (pc := 31) dX1_readsStation_31

theorem C_x_readsStation (l : Launch) (M : PM) : Ctr l Sh yX1_readsStation cX1_readsStation 1 (some .int) 8 rvI [.ref 20] M (x_readsStation M) := Ctr.of (by decide +kernel) (Nat.le_of_ble_eq_true rfl) (fun G => t_x_readsStation G M)

abbrev T_x_readsTraveller (G : JG) (M : PM) (pc : Nat) (L : List (Option Value)) (S : List Value) (o : Option (Int32 × PM)) : Prop := JJ G cX1_readsTraveller yX1_readsTraveller 2 9 (some .boolean) Sh (finR G Sh rvI) M pc L S o
def x_readsTraveller (M : PM) : Option (Int32 × PM) :=
    lt (M.i 20 24) fun v1 =>
    if v1 = 4 then (some (0, M))
    else (bd (x_readsStation M) fun v2 M1 =>
    ck v1 4 <|
    lt (M1.si 44 (ix v1) v2) fun M2 =>
    ck v1 4 <|
    if (M2.i 44 (ix v1)) < 0 then (some (0, M2))
    else (bd (x_eats 58 M2) fun v3 M3 =>
    if v3 = 0 then (some (0, M3))
    else (bd (x_number 3 M3) fun v4 M4 =>
    ck v1 4 <|
    lt (M4.si 45 (ix v1) v4) fun M5 =>
    lt (M5.si 20 24 ((M5.i 20 24) + 1)) fun M6 =>
    ck v1 4 <|
    if (M6.i 45 (ix v1)) < 0 then (some (0, M6))
    else (some (1, M6)))))

set_option maxHeartbeats 4000000 in
theorem t_x_readsTraveller (G : JG) (M : PM) : T_x_readsTraveller G  M 0 (ent [.ref 20] 2) [] (x_readsTraveller M) := by
  unfold x_readsTraveller
  refine J_aload_n (pc := 0) dX1_readsTraveller_0 rfl ?_
  refine J_get (pc := 1) (c := 0) (.int (M.i 20 24)) rfl in_X1 24 (by decide) q201 rfl (fun h => sh_k1 h 0 rfl) (fun _ _ => rfl) dX1_readsTraveller_1 ?_
  refine J_lt (β := Int32) (v := (M.i 20 24)) (L := fun _ => _) (S := fun v1 => [.int v1]) (fun v1 => ?_)
  refine J_istore_n (pc := 4) dX1_readsTraveller_4 (by decide) ?_
  refine J_iload_n (pc := 5) dX1_readsTraveller_5 rfl ?_
  refine J_iconst (pc := 6) 4 dX1_readsTraveller_6 (by decide) ?_
  refine J_icmp_ne (pc := 7) 12 dX1_readsTraveller_7 rfl (fun h => if_neg h) (fun h => if_pos h) (fun _ => ?_) (fun _ => ?_)
  · refine J_aload_n (pc := 12) dX1_readsTraveller_12 rfl ?_
    refine J_get (pc := 13) (c := 0) (.ref 44) rfl in_X1 25 (by decide) q202 rfl (fun h => sh_k1 h 0 rfl) (fun h _ => fv_ref (Or.inr ⟨_, rfl⟩) (sh_r h 23 rfl)) dX1_readsTraveller_13 ?_
    refine J_iload_n (pc := 16) dX1_readsTraveller_16 rfl ?_
    refine J_aload_n (pc := 17) dX1_readsTraveller_17 rfl ?_
    refine J_callV (pc := 18) (n := 0) (b := 20) (vs := []) (ci := 0) (fun l => C_x_readsStation l  M) (lw_V q538 q540 qs9 q116 q541) nmv_X1_readsStation rfl (by omega) (by decide) rfl (fun h => sh_k1 h 0 rfl) rfl (Nat.le_of_ble_eq_true rfl) dX1_readsTraveller_18 (fun v2 M1 => ?_)
    refine J_ck (fun h1 => ?_)
    refine J_iast (pc := 21) (a := 44) (fun h => sh_a h 24 rfl h1) (fun h => Sh_si h) dX1_readsTraveller_21 ?_
    refine J_ltM (fun M2 => ?_)
    refine J_aload_n (pc := 22) dX1_readsTraveller_22 rfl ?_
    refine J_get (pc := 23) (c := 0) (.ref 44) rfl in_X1 25 (by decide) q202 rfl (fun h => sh_k1 h 0 rfl) (fun h _ => fv_ref (Or.inr ⟨_, rfl⟩) (sh_r h 23 rfl)) dX1_readsTraveller_23 ?_
    refine J_iload_n (pc := 26) dX1_readsTraveller_26 rfl ?_
    refine J_ck (fun h2 => ?_)
    refine J_iald (pc := 27) (a := 44) (fun h => sh_a h 24 rfl h2) dX1_readsTraveller_27 ?_
    refine J_if_lt (pc := 28) 40 dX1_readsTraveller_28 rfl (fun h => if_pos h) (fun h => if_neg h) (fun _ => ?_) (fun _ => ?_)
    · refine J_iconst (pc := 40) 0 dX1_readsTraveller_40 (by decide) ?_
      exact J_zret (pc := 41) rfl dX1_readsTraveller_41
    · refine J_aload_n (pc := 31) dX1_readsTraveller_31 rfl ?_
      refine J_bipush (pc := 32) 58 dX1_readsTraveller_32 (by decide) ?_
      refine J_callV (pc := 34) (n := 1) (b := 20) (vs := [.int 58]) (ci := 0) (fun l => C_x_eats l 58 M2) (lw_V q510 q512 qs4 q116 q513) nmv_X1_eats rfl (by omega) (by decide) rfl (fun h => sh_k1 h 0 rfl) rfl (Nat.le_of_ble_eq_true rfl) dX1_readsTraveller_34 (fun v3 M3 => ?_)
      refine J_if_ne (pc := 37) 42 dX1_readsTraveller_37 rfl (fun h => if_neg h) (fun h => if_pos h) (fun _ => ?_) (fun _ => ?_)
      · refine J_aload_n (pc := 42) dX1_readsTraveller_42 rfl ?_
        refine J_get (pc := 43) (c := 0) (.ref 45) rfl in_X1 26 (by decide) q203 rfl (fun h => sh_k1 h 0 rfl) (fun h _ => fv_ref (Or.inr ⟨_, rfl⟩) (sh_r h 24 rfl)) dX1_readsTraveller_43 ?_
        refine J_iload_n (pc := 46) dX1_readsTraveller_46 rfl ?_
        refine J_aload_n (pc := 47) dX1_readsTraveller_47 rfl ?_
        refine J_iconst (pc := 48) 3 dX1_readsTraveller_48 (by decide) ?_
        refine J_callV (pc := 49) (n := 1) (b := 20) (vs := [.int 3]) (ci := 0) (fun l => C_x_number l 3 M3) (lw_V q542 q544 qs10 q116 q545) nmv_X1_number rfl (by omega) (by decide) rfl (fun h => sh_k1 h 0 rfl) rfl (Nat.le_of_ble_eq_true rfl) dX1_readsTraveller_49 (fun v4 M4 => ?_)
        refine J_ck (fun h3 => ?_)
        refine J_iast (pc := 52) (a := 45) (fun h => sh_a h 25 rfl h3) (fun h => Sh_si h) dX1_readsTraveller_52 ?_
        refine J_ltM (fun M5 => ?_)
        refine J_aload_n (pc := 53) dX1_readsTraveller_53 rfl ?_
        refine J_dup (pc := 54) dX1_readsTraveller_54 rfl ?_
        refine J_get (pc := 55) (c := 0) (.int (M5.i 20 24)) rfl in_X1 24 (by decide) q201 rfl (fun h => sh_k1 h 0 rfl) (fun _ _ => rfl) dX1_readsTraveller_55 ?_
        refine J_iconst (pc := 58) 1 dX1_readsTraveller_58 (by decide) ?_
        refine J_iadd (pc := 59) dX1_readsTraveller_59 ?_
        refine J_put (pc := 60) (a := 20) (v := .int ((M5.i 20 24) + 1)) (M' := M5.si 20 24 ((M5.i 20 24) + 1)) (c := 0) rfl in_X1 tyX1_ok fnX1 24 (by decide) q201 rfl (Or.inl rfl) (fun h => sh_k1 h 0 rfl) (fun _ => rfl) (fun _ => rfl) ⟨⟨rfl, rfl⟩, rfl⟩ (fun _ hb => up2_same hb) (fun _ _ => rfl) (fun _ _ => rfl) (put_i (fun _ _ _ => rfl)) (fun h => Sh_si h) dX1_readsTraveller_60 ?_
        refine J_ltM (fun M6 => ?_)
        refine J_aload_n (pc := 63) dX1_readsTraveller_63 rfl ?_
        refine J_get (pc := 64) (c := 0) (.ref 45) rfl in_X1 26 (by decide) q203 rfl (fun h => sh_k1 h 0 rfl) (fun h _ => fv_ref (Or.inr ⟨_, rfl⟩) (sh_r h 24 rfl)) dX1_readsTraveller_64 ?_
        refine J_iload_n (pc := 67) dX1_readsTraveller_67 rfl ?_
        refine J_ck (fun h4 => ?_)
        refine J_iald (pc := 68) (a := 45) (fun h => sh_a h 25 rfl h4) dX1_readsTraveller_68 ?_
        refine J_if_lt (pc := 69) 76 dX1_readsTraveller_69 rfl (fun h => if_pos h) (fun h => if_neg h) (fun _ => ?_) (fun _ => ?_)
        · refine J_iconst (pc := 76) 0 dX1_readsTraveller_76 (by decide) ?_
          exact J_zret (pc := 77) rfl dX1_readsTraveller_77
        · refine J_iconst (pc := 72) 1 dX1_readsTraveller_72 (by decide) ?_
          refine J_goto (pc := 73) 77 dX1_readsTraveller_73 rfl ?_
          exact J_zret (pc := 77) rfl dX1_readsTraveller_77
      · refine J_iconst (pc := 40) 0 dX1_readsTraveller_40 (by decide) ?_
        exact J_zret (pc := 41) rfl dX1_readsTraveller_41
  · refine J_iconst (pc := 10) 0 dX1_readsTraveller_10 (by decide) ?_
    exact J_zret (pc := 11) rfl dX1_readsTraveller_11

theorem C_x_readsTraveller (l : Launch) (M : PM) : Ctr l Sh yX1_readsTraveller cX1_readsTraveller 2 (some .boolean) 9 rvI [.ref 20] M (x_readsTraveller M) := Ctr.of (by decide +kernel) (Nat.le_of_ble_eq_true rfl) (fun G => t_x_readsTraveller G M)

abbrev T_x_travellers (G : JG) (M : PM) (pc : Nat) (L : List (Option Value)) (S : List Value) (o : Option (Int32 × PM)) : Prop := JJ G cX1_travellers yX1_travellers 6 10 (some .int) Sh (finR G Sh rvI) M pc L S o
def x_travellers_L25 (c1 : Int32) (k56 : Int32 → PM → Option (Int32 × PM)) : Nat → Int32 → Int32 → PM → Option (Int32 × PM)
  | 0, _, _, _ => none
  | n + 1, v2, v3, M3 =>
    if v3 = 0 then (k56 v2 M3)
    else (bd (x_readsTraveller M3) fun v4 M4 =>
    jn (fun (v5 : Int32) (M5 : PM) =>
    x_travellers_L25 c1 k56 n v4 v5 M5) fun j1 =>
    if v4 = 0 then (j1 0 M4)
    else (bd (x_eats 59 M4) fun v6 M6 =>
    if v6 = 0 then (j1 0 M6)
    else (j1 1 M6)))

set_option maxHeartbeats 4000000 in
theorem t_x_travellers_L25 (G : JG) (c1 : Int32) (k56 : Int32 → PM → Option (Int32 × PM)) (hk56 : ∀ z2 Me, T_x_travellers G  Me 56 [some (.ref 20), some (.int c1), some (.int z2), none, none, none] [] (k56 z2 Me)) : ∀ (n : Nat) (v2 : Int32) (v3 : Int32) (M3 : PM), T_x_travellers G  M3 25 [some (.ref 20), some (.int c1), some (.int v2), some (.int v3), none, none] [] (x_travellers_L25 c1 k56 n v2 v3 M3) := by
  intro n
  induction n with
  | zero =>
    intro v2 v3 M3
    exact J_none
  | succ n ih =>
    intro v2 v3 M3
    rw [x_travellers_L25]
    refine J_iload_n (pc := 25) dX1_travellers_25 rfl ?_
    refine J_if_eq (pc := 26) 56 dX1_travellers_26 rfl (fun h => if_pos h) (fun h => if_neg h) (fun _ => ?_) (fun _ => ?_)
    · exact J_sub (A := [some (.ref 20), some (.int c1), some (.int v2), none, none, none]) ⟨rfl, ⟨rfl, ⟨rfl, trivial⟩⟩⟩ (hk56 v2 M3)
    · refine J_aload_n (pc := 29) dX1_travellers_29 rfl ?_
      refine J_callV (pc := 30) (n := 0) (b := 20) (vs := []) (ci := 0) (fun l => C_x_readsTraveller l  M3) (lw_V q534 q536 qs8 q116 q537) nmv_X1_readsTraveller rfl (by omega) (by decide) rfl (fun h => sh_k1 h 0 rfl) rfl (Nat.le_of_ble_eq_true rfl) dX1_travellers_30 (fun v4 M4 => ?_)
      refine J_istore_n (pc := 33) dX1_travellers_33 (by decide) ?_
      refine J_iload_n (pc := 34) dX1_travellers_34 rfl ?_
      refine J_jn (P := fun J => ∀ (v5 : Int32) (M5 : PM), T_x_travellers G  M5 52 [some (.ref 20), some (.int c1), some (.int v4), none, none, none] [.int v5] (J v5 M5)) (fun v5 M5 => ?_) (fun j1 hj1 => ?_)
      · refine J_istore_n (pc := 52) dX1_travellers_52 (by decide) ?_
        refine J_goto (pc := 53) 25 dX1_travellers_53 rfl ?_
        exact J_sub (A := [some (.ref 20), some (.int c1), some (.int v4), some (.int v5), none, none]) ⟨rfl, ⟨rfl, ⟨rfl, ⟨rfl, trivial⟩⟩⟩⟩ (ih v4 v5 M5)
      refine J_if_eq (pc := 35) 51 dX1_travellers_35 rfl (fun h => if_pos h) (fun h => if_neg h) (fun _ => ?_) (fun _ => ?_)
      · refine J_iconst (pc := 51) 0 dX1_travellers_51 (by decide) ?_
        exact J_sub (A := [some (.ref 20), some (.int c1), some (.int v4), none, none, none]) ⟨rfl, ⟨rfl, ⟨rfl, trivial⟩⟩⟩ (hj1 0 M4)
      · refine J_aload_n (pc := 38) dX1_travellers_38 rfl ?_
        refine J_bipush (pc := 39) 59 dX1_travellers_39 (by decide) ?_
        refine J_callV (pc := 41) (n := 1) (b := 20) (vs := [.int 59]) (ci := 0) (fun l => C_x_eats l 59 M4) (lw_V q510 q512 qs4 q116 q513) nmv_X1_eats rfl (by omega) (by decide) rfl (fun h => sh_k1 h 0 rfl) rfl (Nat.le_of_ble_eq_true rfl) dX1_travellers_41 (fun v6 M6 => ?_)
        refine J_if_eq (pc := 44) 51 dX1_travellers_44 rfl (fun h => if_pos h) (fun h => if_neg h) (fun _ => ?_) (fun _ => ?_)
        · refine J_iconst (pc := 51) 0 dX1_travellers_51 (by decide) ?_
          exact J_sub (A := [some (.ref 20), some (.int c1), some (.int v4), none, none, none]) ⟨rfl, ⟨rfl, ⟨rfl, trivial⟩⟩⟩ (hj1 0 M6)
        · refine J_iconst (pc := 47) 1 dX1_travellers_47 (by decide) ?_
          refine J_goto (pc := 48) 52 dX1_travellers_48 rfl ?_
          exact J_sub (A := [some (.ref 20), some (.int c1), some (.int v4), none, none, none]) ⟨rfl, ⟨rfl, ⟨rfl, trivial⟩⟩⟩ (hj1 1 M6)

def x_travellers_L83 (c5 : Int32) (k162 : PM → Option (Int32 × PM)) : Nat → PM → Option (Int32 × PM)
  | 0, _ => none
  | n + 1, M9 =>
    if (M9.i 20 24) ≤ (M9.i 20 12) then (k162 M9)
    else (ck (M9.i 20 12) 4 <|
    ck (M9.i 20 12) 4 <|
    lt (M9.si 22 (ix (M9.i 20 12)) (M9.i 44 (ix (M9.i 20 12)))) fun M10 =>
    ck (M10.i 20 12) 4 <|
    ck (M10.i 20 12) 4 <|
    lt (M10.si 23 (ix (M10.i 20 12)) (M10.i 45 (ix (M10.i 20 12)))) fun M11 =>
    ck (M11.i 20 12) 4 <|
    lt (M11.si 24 (ix (M11.i 20 12)) 0) fun M12 =>
    lt (M12.si 20 12 ((M12.i 20 12) + 1)) fun M13 =>
    x_travellers_L83 c5 k162 n M13)

set_option maxHeartbeats 4000000 in
theorem t_x_travellers_L83 (G : JG) (c5 : Int32) (k162 : PM → Option (Int32 × PM)) (hk162 : ∀ Me, T_x_travellers G  Me 162 [some (.ref 20), none, none, none, none, some (.int c5)] [] (k162 Me)) : ∀ (n : Nat) (M9 : PM), T_x_travellers G  M9 83 [some (.ref 20), none, none, none, none, some (.int c5)] [] (x_travellers_L83 c5 k162 n  M9) := by
  intro n
  induction n with
  | zero =>
    intro M9
    exact J_none
  | succ n ih =>
    intro M9
    rw [x_travellers_L83]
    refine J_aload_n (pc := 83) dX1_travellers_83 rfl ?_
    refine J_get (pc := 84) (c := 0) (.int (M9.i 20 12)) rfl in_X1 12 (by decide) q189 rfl (fun h => sh_k1 h 0 rfl) (fun _ _ => rfl) dX1_travellers_84 ?_
    refine J_aload_n (pc := 87) dX1_travellers_87 rfl ?_
    refine J_get (pc := 88) (c := 0) (.int (M9.i 20 24)) rfl in_X1 24 (by decide) q201 rfl (fun h => sh_k1 h 0 rfl) (fun _ _ => rfl) dX1_travellers_88 ?_
    refine J_icmp_ge (pc := 91) 162 dX1_travellers_91 rfl (fun h => if_pos h) (fun h => if_neg h) (fun _ => ?_) (fun _ => ?_)
    · exact J_sub (A := [some (.ref 20), none, none, none, none, some (.int c5)]) ⟨rfl, ⟨rfl, trivial⟩⟩ (hk162 M9)
    · refine J_aload_n (pc := 94) dX1_travellers_94 rfl ?_
      refine J_get (pc := 95) (c := 0) (.ref 21) rfl in_X1 0 (by decide) q177 rfl (fun h => sh_k1 h 0 rfl) (fun h _ => fv_ref (Or.inl ⟨_, rfl⟩) (sh_r h 4 rfl)) dX1_travellers_95 ?_
      refine J_getN (host := "TollOnVowels") (pc := 98) (c := 1) (.ref 22) rfl in_X2 0 (by decide) (by decide +kernel) rfl (fun h => sh_k1 h 1 rfl) (fun h _ => fv_ref (Or.inr ⟨_, rfl⟩) (sh_r h 0 rfl)) dX1_travellers_98 ?_
      refine J_aload_n (pc := 101) dX1_travellers_101 rfl ?_
      refine J_get (pc := 102) (c := 0) (.int (M9.i 20 12)) rfl in_X1 12 (by decide) q189 rfl (fun h => sh_k1 h 0 rfl) (fun _ _ => rfl) dX1_travellers_102 ?_
      refine J_aload_n (pc := 105) dX1_travellers_105 rfl ?_
      refine J_get (pc := 106) (c := 0) (.ref 44) rfl in_X1 25 (by decide) q202 rfl (fun h => sh_k1 h 0 rfl) (fun h _ => fv_ref (Or.inr ⟨_, rfl⟩) (sh_r h 23 rfl)) dX1_travellers_106 ?_
      refine J_aload_n (pc := 109) dX1_travellers_109 rfl ?_
      refine J_get (pc := 110) (c := 0) (.int (M9.i 20 12)) rfl in_X1 12 (by decide) q189 rfl (fun h => sh_k1 h 0 rfl) (fun _ _ => rfl) dX1_travellers_110 ?_
      refine J_ck (fun h1 => ?_)
      refine J_iald (pc := 113) (a := 44) (fun h => sh_a h 24 rfl h1) dX1_travellers_113 ?_
      refine J_ck (fun h2 => ?_)
      refine J_iast (pc := 114) (a := 22) (fun h => sh_a h 2 rfl h2) (fun h => Sh_si h) dX1_travellers_114 ?_
      refine J_ltM (fun M10 => ?_)
      refine J_aload_n (pc := 115) dX1_travellers_115 rfl ?_
      refine J_get (pc := 116) (c := 0) (.ref 21) rfl in_X1 0 (by decide) q177 rfl (fun h => sh_k1 h 0 rfl) (fun h _ => fv_ref (Or.inl ⟨_, rfl⟩) (sh_r h 4 rfl)) dX1_travellers_116 ?_
      refine J_getN (host := "TollOnVowels") (pc := 119) (c := 1) (.ref 23) rfl in_X2 1 (by decide) (by decide +kernel) rfl (fun h => sh_k1 h 1 rfl) (fun h _ => fv_ref (Or.inr ⟨_, rfl⟩) (sh_r h 1 rfl)) dX1_travellers_119 ?_
      refine J_aload_n (pc := 122) dX1_travellers_122 rfl ?_
      refine J_get (pc := 123) (c := 0) (.int (M10.i 20 12)) rfl in_X1 12 (by decide) q189 rfl (fun h => sh_k1 h 0 rfl) (fun _ _ => rfl) dX1_travellers_123 ?_
      refine J_aload_n (pc := 126) dX1_travellers_126 rfl ?_
      refine J_get (pc := 127) (c := 0) (.ref 45) rfl in_X1 26 (by decide) q203 rfl (fun h => sh_k1 h 0 rfl) (fun h _ => fv_ref (Or.inr ⟨_, rfl⟩) (sh_r h 24 rfl)) dX1_travellers_127 ?_
      refine J_aload_n (pc := 130) dX1_travellers_130 rfl ?_
      refine J_get (pc := 131) (c := 0) (.int (M10.i 20 12)) rfl in_X1 12 (by decide) q189 rfl (fun h => sh_k1 h 0 rfl) (fun _ _ => rfl) dX1_travellers_131 ?_
      refine J_ck (fun h3 => ?_)
      refine J_iald (pc := 134) (a := 45) (fun h => sh_a h 25 rfl h3) dX1_travellers_134 ?_
      refine J_ck (fun h4 => ?_)
      refine J_iast (pc := 135) (a := 23) (fun h => sh_a h 3 rfl h4) (fun h => Sh_si h) dX1_travellers_135 ?_
      refine J_ltM (fun M11 => ?_)
      refine J_aload_n (pc := 136) dX1_travellers_136 rfl ?_
      refine J_get (pc := 137) (c := 0) (.ref 21) rfl in_X1 0 (by decide) q177 rfl (fun h => sh_k1 h 0 rfl) (fun h _ => fv_ref (Or.inl ⟨_, rfl⟩) (sh_r h 4 rfl)) dX1_travellers_137 ?_
      refine J_getN (host := "TollOnVowels") (pc := 140) (c := 1) (.ref 24) rfl in_X2 2 (by decide) (by decide +kernel) rfl (fun h => sh_k1 h 1 rfl) (fun h _ => fv_ref (Or.inr ⟨_, rfl⟩) (sh_r h 2 rfl)) dX1_travellers_140 ?_
      refine J_aload_n (pc := 143) dX1_travellers_143 rfl ?_
      refine J_get (pc := 144) (c := 0) (.int (M11.i 20 12)) rfl in_X1 12 (by decide) q189 rfl (fun h => sh_k1 h 0 rfl) (fun _ _ => rfl) dX1_travellers_144 ?_
      refine J_iconst (pc := 147) 0 dX1_travellers_147 (by decide) ?_
      refine J_ck (fun h5 => ?_)
      refine J_iast (pc := 148) (a := 24) (fun h => sh_a h 4 rfl h5) (fun h => Sh_si h) dX1_travellers_148 ?_
      refine J_ltM (fun M12 => ?_)
      refine J_aload_n (pc := 149) dX1_travellers_149 rfl ?_
      refine J_dup (pc := 150) dX1_travellers_150 rfl ?_
      refine J_get (pc := 151) (c := 0) (.int (M12.i 20 12)) rfl in_X1 12 (by decide) q189 rfl (fun h => sh_k1 h 0 rfl) (fun _ _ => rfl) dX1_travellers_151 ?_
      refine J_iconst (pc := 154) 1 dX1_travellers_154 (by decide) ?_
      refine J_iadd (pc := 155) dX1_travellers_155 ?_
      refine J_put (pc := 156) (a := 20) (v := .int ((M12.i 20 12) + 1)) (M' := M12.si 20 12 ((M12.i 20 12) + 1)) (c := 0) rfl in_X1 tyX1_ok fnX1 12 (by decide) q189 rfl (Or.inl rfl) (fun h => sh_k1 h 0 rfl) (fun _ => rfl) (fun _ => rfl) ⟨⟨rfl, rfl⟩, rfl⟩ (fun _ hb => up2_same hb) (fun _ _ => rfl) (fun _ _ => rfl) (put_i (fun _ _ _ => rfl)) (fun h => Sh_si h) dX1_travellers_156 ?_
      refine J_ltM (fun M13 => ?_)
      refine J_goto (pc := 159) 83 dX1_travellers_159 rfl ?_
      exact J_sub (A := [some (.ref 20), none, none, none, none, some (.int c5)]) ⟨rfl, ⟨rfl, trivial⟩⟩ (ih M13)

def x_travellers (M : PM) : Option (Int32 × PM) :=
    bd (x_begins 40 M) fun v1 M1 =>
    if v1 = 0 then (some (0, M1))
    else (lt (M1.si 20 24 (M1.i 20 12)) fun M2 =>
    x_travellers_L25 v1 (fun (v7 : Int32) (M7 : PM) =>
    bd (x_faultOf v1 v7 M7) fun v8 M8 =>
    if 0 ≤ v8 then (lt ((M8.i 20 24) - (M8.i 20 12)) fun v9 =>
    x_travellers_L83 v9 (fun (M14 : PM) =>
    bd (x_isNew M14) fun _ M15 =>
    some (v9, M15)) FU M8)
    else (some (v8, M8))) FU 1 1 M2)

set_option maxHeartbeats 4000000 in
theorem t_x_travellers (G : JG) (M : PM) : T_x_travellers G  M 0 (ent [.ref 20] 6) [] (x_travellers M) := by
  unfold x_travellers
  refine J_aload_n (pc := 0) dX1_travellers_0 rfl ?_
  refine J_bipush (pc := 1) 40 dX1_travellers_1 (by decide) ?_
  refine J_callV (pc := 3) (n := 1) (b := 20) (vs := [.int 40]) (ci := 0) (fun l => C_x_begins l 40 M) (lw_V q405 q407 qs0 q116 q408) nmv_X1_begins rfl (by omega) (by decide) rfl (fun h => sh_k1 h 0 rfl) rfl (Nat.le_of_ble_eq_true rfl) dX1_travellers_3 (fun v1 M1 => ?_)
  refine J_istore_n (pc := 6) dX1_travellers_6 (by decide) ?_
  refine J_iload_n (pc := 7) dX1_travellers_7 rfl ?_
  refine J_if_ne (pc := 8) 13 dX1_travellers_8 rfl (fun h => if_neg h) (fun h => if_pos h) (fun _ => ?_) (fun _ => ?_)
  · refine J_aload_n (pc := 13) dX1_travellers_13 rfl ?_
    refine J_aload_n (pc := 14) dX1_travellers_14 rfl ?_
    refine J_get (pc := 15) (c := 0) (.int (M1.i 20 12)) rfl in_X1 12 (by decide) q189 rfl (fun h => sh_k1 h 0 rfl) (fun _ _ => rfl) dX1_travellers_15 ?_
    refine J_put (pc := 18) (a := 20) (v := .int (M1.i 20 12)) (M' := M1.si 20 24 (M1.i 20 12)) (c := 0) rfl in_X1 tyX1_ok fnX1 24 (by decide) q201 rfl (Or.inl rfl) (fun h => sh_k1 h 0 rfl) (fun _ => rfl) (fun _ => rfl) ⟨⟨rfl, rfl⟩, rfl⟩ (fun _ hb => up2_same hb) (fun _ _ => rfl) (fun _ _ => rfl) (put_i (fun _ _ _ => rfl)) (fun h => Sh_si h) dX1_travellers_18 ?_
    refine J_ltM (fun M2 => ?_)
    refine J_iconst (pc := 21) 1 dX1_travellers_21 (by decide) ?_
    refine J_istore_n (pc := 22) dX1_travellers_22 (by decide) ?_
    refine J_iconst (pc := 23) 1 dX1_travellers_23 (by decide) ?_
    refine J_istore_n (pc := 24) dX1_travellers_24 (by decide) ?_
    refine J_sub (A := [some (.ref 20), some (.int v1), some (.int 1), some (.int 1), none, none]) ⟨rfl, ⟨rfl, ⟨rfl, ⟨rfl, trivial⟩⟩⟩⟩ (t_x_travellers_L25 G v1 _ ?_ FU 1 1 M2)
    · intro v7 M7
      refine J_aload_n (pc := 56) dX1_travellers_56 rfl ?_
      refine J_iload_n (pc := 57) dX1_travellers_57 rfl ?_
      refine J_iload_n (pc := 58) dX1_travellers_58 rfl ?_
      refine J_callV (pc := 59) (n := 2) (b := 20) (vs := [.int v1, .int v7]) (ci := 0) (fun l => C_x_faultOf l v1 v7 M7) (lw_V q518 q520 qs6 q116 q521) nmv_X1_faultOf rfl (by omega) (by decide) rfl (fun h => sh_k1 h 0 rfl) rfl (Nat.le_of_ble_eq_true rfl) dX1_travellers_59 (fun v8 M8 => ?_)
      refine J_istore (pc := 62) dX1_travellers_62 (by decide) ?_
      refine J_iload (pc := 64) dX1_travellers_64 rfl ?_
      refine J_if_ge (pc := 66) 72 dX1_travellers_66 rfl (fun h => if_pos h) (fun h => if_neg h) (fun _ => ?_) (fun _ => ?_)
      · refine J_aload_n (pc := 72) dX1_travellers_72 rfl ?_
        refine J_get (pc := 73) (c := 0) (.int (M8.i 20 24)) rfl in_X1 24 (by decide) q201 rfl (fun h => sh_k1 h 0 rfl) (fun _ _ => rfl) dX1_travellers_73 ?_
        refine J_aload_n (pc := 76) dX1_travellers_76 rfl ?_
        refine J_get (pc := 77) (c := 0) (.int (M8.i 20 12)) rfl in_X1 12 (by decide) q189 rfl (fun h => sh_k1 h 0 rfl) (fun _ _ => rfl) dX1_travellers_77 ?_
        refine J_isub (pc := 80) dX1_travellers_80 ?_
        refine J_lt (β := Int32) (v := ((M8.i 20 24) - (M8.i 20 12))) (L := fun _ => _) (S := fun v9 => [.int v9]) (fun v9 => ?_)
        refine J_istore (pc := 81) dX1_travellers_81 (by decide) ?_
        refine J_sub (A := [some (.ref 20), none, none, none, none, some (.int v9)]) ⟨rfl, ⟨rfl, trivial⟩⟩ (t_x_travellers_L83 G v9 _ ?_ FU M8)
        · intro M14
          refine J_aload_n (pc := 162) dX1_travellers_162 rfl ?_
          refine J_callV (pc := 163) (n := 0) (b := 20) (vs := []) (ci := 0) (fun l => C_x_isNew l  M14) (lw_V q525 q527 qs7 q116 q528) nmv_X1_isNew rfl (by omega) (by decide) rfl (fun h => sh_k1 h 0 rfl) rfl (Nat.le_of_ble_eq_true rfl) dX1_travellers_163 (fun _ M15 => ?_)
          refine J_iload (pc := 166) dX1_travellers_166 rfl ?_
          exact J_iret (pc := 168) dX1_travellers_168
      · refine J_iload (pc := 69) dX1_travellers_69 rfl ?_
        exact J_iret (pc := 71) dX1_travellers_71
  · refine J_iconst (pc := 11) 0 dX1_travellers_11 (by decide) ?_
    exact J_iret (pc := 12) dX1_travellers_12

theorem C_x_travellers (l : Launch) (M : PM) : Ctr l Sh yX1_travellers cX1_travellers 6 (some .int) 10 rvI [.ref 20] M (x_travellers M) := Ctr.of (by decide +kernel) (Nat.le_of_ble_eq_true rfl) (fun G => t_x_travellers G M)

abbrev T_x_readsErrand (G : JG) (M : PM) (pc : Nat) (L : List (Option Value)) (S : List Value) (o : Option (Int32 × PM)) : Prop := JJ G cX1_readsErrand yX1_readsErrand 2 9 (some .boolean) Sh (finR G Sh rvI) M pc L S o
def x_readsErrand (M : PM) : Option (Int32 × PM) :=
    lt (M.i 20 24) fun v1 =>
    if v1 = 8 then (some (0, M))
    else (bd (x_among 2 M) fun v2 M1 =>
    bd (x_in (Int32.toInt64 v2) 0 (Int32.toInt64 ((M1.i 20 12) - 1)) M1) fun v3 M2 =>
    jn (fun (v4 : Int32) (M3 : PM) =>
    ck v1 8 <|
    lt (M3.si 46 (ix v1) v4) fun M4 =>
    ck v1 8 <|
    if 0 ≤ (M4.i 46 (ix v1)) then (bd (x_takesOf 1 M4) fun v5 M5 =>
    ck v1 8 <|
    lt (M5.si 47 (ix v1) v5) fun M6 =>
    ck v1 8 <|
    if 0 ≤ (M6.i 47 (ix v1)) then (bd (x_readsStation M6) fun v6 M7 =>
    ck v1 8 <|
    lt (M7.si 48 (ix v1) v6) fun M8 =>
    ck v1 8 <|
    if (M8.i 48 (ix v1)) < 0 then (some (0, M8))
    else (bd (x_eats 61 M8) fun v7 M9 =>
    if v7 = 0 then (some (0, M9))
    else (bd (x_number 2 M9) fun v8 M10 =>
    ck v1 8 <|
    lt (M10.si 49 (ix v1) v8) fun M11 =>
    lt (M11.si 20 24 ((M11.i 20 24) + 1)) fun M12 =>
    ck v1 8 <|
    if (M12.i 49 (ix v1)) < 0 then (some (0, M12))
    else (some (1, M12)))))
    else (some (0, M6)))
    else (some (0, M4))) fun j1 =>
    if v3 = 0 then (j1 (-1) M2)
    else (bd (x_takesOf 2 M2) fun v9 M13 =>
    j1 v9 M13))

set_option maxHeartbeats 4000000 in
theorem t_x_readsErrand (G : JG) (M : PM) : T_x_readsErrand G  M 0 (ent [.ref 20] 2) [] (x_readsErrand M) := by
  unfold x_readsErrand
  refine J_aload_n (pc := 0) dX1_readsErrand_0 rfl ?_
  refine J_get (pc := 1) (c := 0) (.int (M.i 20 24)) rfl in_X1 24 (by decide) q201 rfl (fun h => sh_k1 h 0 rfl) (fun _ _ => rfl) dX1_readsErrand_1 ?_
  refine J_lt (β := Int32) (v := (M.i 20 24)) (L := fun _ => _) (S := fun v1 => [.int v1]) (fun v1 => ?_)
  refine J_istore_n (pc := 4) dX1_readsErrand_4 (by decide) ?_
  refine J_iload_n (pc := 5) dX1_readsErrand_5 rfl ?_
  refine J_bipush (pc := 6) 8 dX1_readsErrand_6 (by decide) ?_
  refine J_icmp_ne (pc := 8) 13 dX1_readsErrand_8 rfl (fun h => if_neg h) (fun h => if_pos h) (fun _ => ?_) (fun _ => ?_)
  · refine J_aload_n (pc := 13) dX1_readsErrand_13 rfl ?_
    refine J_get (pc := 14) (c := 0) (.ref 46) rfl in_X1 27 (by decide) q204 rfl (fun h => sh_k1 h 0 rfl) (fun h _ => fv_ref (Or.inr ⟨_, rfl⟩) (sh_r h 25 rfl)) dX1_readsErrand_14 ?_
    refine J_iload_n (pc := 17) dX1_readsErrand_17 rfl ?_
    refine J_aload_n (pc := 18) dX1_readsErrand_18 rfl ?_
    refine J_ldcS (pc := 19) (i := 1) rfl rfl dX1_readsErrand_19 ?_
    refine J_callV (pc := 21) (n := 1) (b := 20) (vs := [.ref 2]) (ci := 0) (fun l => C_x_among l 2 M) (lw_V q421 q423 qs3 q116 q424) nmv_X1_among rfl (by omega) (by decide) rfl (fun h => sh_k1 h 0 rfl) rfl (Nat.le_of_ble_eq_true rfl) dX1_readsErrand_21 (fun v2 M1 => ?_)
    refine J_i2l (pc := 24) dX1_readsErrand_24 ?_
    refine J_lconst (pc := 25) 0 dX1_readsErrand_25 (by decide) ?_
    refine J_aload_n (pc := 26) dX1_readsErrand_26 rfl ?_
    refine J_get (pc := 27) (c := 0) (.int (M1.i 20 12)) rfl in_X1 12 (by decide) q189 rfl (fun h => sh_k1 h 0 rfl) (fun _ _ => rfl) dX1_readsErrand_27 ?_
    refine J_iconst (pc := 30) 1 dX1_readsErrand_30 (by decide) ?_
    refine J_isub (pc := 31) dX1_readsErrand_31 ?_
    refine J_i2l (pc := 32) dX1_readsErrand_32 ?_
    refine J_callS (pc := 33) (n := 3) (vs := [.long (Int32.toInt64 v2), .long 0, .long (Int32.toInt64 ((M1.i 20 12) - 1))]) (fun l => C_x_in l (Int32.toInt64 v2) 0 (Int32.toInt64 ((M1.i 20 12) - 1)) M1) (lw_S q398 q399 q116 q400) nmh_X1_in rfl (by omega) (by decide) rfl (Nat.le_of_ble_eq_true rfl) dX1_readsErrand_33 (fun v3 M2 => ?_)
    refine J_jn (P := fun J => ∀ (v4 : Int32) (M3 : PM), T_x_readsErrand G  M3 49 [some (.ref 20), some (.int v1)] [.int v4, .int v1, .ref 46] (J v4 M3)) (fun v4 M3 => ?_) (fun j1 hj1 => ?_)
    · refine J_ck (fun h1 => ?_)
      refine J_iast (pc := 49) (a := 46) (fun h => sh_a h 26 rfl h1) (fun h => Sh_si h) dX1_readsErrand_49 ?_
      refine J_ltM (fun M4 => ?_)
      refine J_aload_n (pc := 50) dX1_readsErrand_50 rfl ?_
      refine J_get (pc := 51) (c := 0) (.ref 46) rfl in_X1 27 (by decide) q204 rfl (fun h => sh_k1 h 0 rfl) (fun h _ => fv_ref (Or.inr ⟨_, rfl⟩) (sh_r h 25 rfl)) dX1_readsErrand_51 ?_
      refine J_iload_n (pc := 54) dX1_readsErrand_54 rfl ?_
      refine J_ck (fun h2 => ?_)
      refine J_iald (pc := 55) (a := 46) (fun h => sh_a h 26 rfl h2) dX1_readsErrand_55 ?_
      refine J_if_ge (pc := 56) 61 dX1_readsErrand_56 rfl (fun h => if_pos h) (fun h => if_neg h) (fun _ => ?_) (fun _ => ?_)
      · refine J_aload_n (pc := 61) dX1_readsErrand_61 rfl ?_
        refine J_get (pc := 62) (c := 0) (.ref 47) rfl in_X1 28 (by decide) q205 rfl (fun h => sh_k1 h 0 rfl) (fun h _ => fv_ref (Or.inr ⟨_, rfl⟩) (sh_r h 26 rfl)) dX1_readsErrand_62 ?_
        refine J_iload_n (pc := 65) dX1_readsErrand_65 rfl ?_
        refine J_aload_n (pc := 66) dX1_readsErrand_66 rfl ?_
        refine J_ldcS (pc := 67) (i := 0) rfl rfl dX1_readsErrand_67 ?_
        refine J_callV (pc := 69) (n := 1) (b := 20) (vs := [.ref 1]) (ci := 0) (fun l => C_x_takesOf l 1 M4) (lw_V q417 q419 qs2 q116 q420) nmv_X1_takesOf rfl (by omega) (by decide) rfl (fun h => sh_k1 h 0 rfl) rfl (Nat.le_of_ble_eq_true rfl) dX1_readsErrand_69 (fun v5 M5 => ?_)
        refine J_ck (fun h3 => ?_)
        refine J_iast (pc := 72) (a := 47) (fun h => sh_a h 27 rfl h3) (fun h => Sh_si h) dX1_readsErrand_72 ?_
        refine J_ltM (fun M6 => ?_)
        refine J_aload_n (pc := 73) dX1_readsErrand_73 rfl ?_
        refine J_get (pc := 74) (c := 0) (.ref 47) rfl in_X1 28 (by decide) q205 rfl (fun h => sh_k1 h 0 rfl) (fun h _ => fv_ref (Or.inr ⟨_, rfl⟩) (sh_r h 26 rfl)) dX1_readsErrand_74 ?_
        refine J_iload_n (pc := 77) dX1_readsErrand_77 rfl ?_
        refine J_ck (fun h4 => ?_)
        refine J_iald (pc := 78) (a := 47) (fun h => sh_a h 27 rfl h4) dX1_readsErrand_78 ?_
        refine J_if_ge (pc := 79) 84 dX1_readsErrand_79 rfl (fun h => if_pos h) (fun h => if_neg h) (fun _ => ?_) (fun _ => ?_)
        · refine J_aload_n (pc := 84) dX1_readsErrand_84 rfl ?_
          refine J_get (pc := 85) (c := 0) (.ref 48) rfl in_X1 29 (by decide) q206 rfl (fun h => sh_k1 h 0 rfl) (fun h _ => fv_ref (Or.inr ⟨_, rfl⟩) (sh_r h 27 rfl)) dX1_readsErrand_85 ?_
          refine J_iload_n (pc := 88) dX1_readsErrand_88 rfl ?_
          refine J_aload_n (pc := 89) dX1_readsErrand_89 rfl ?_
          refine J_callV (pc := 90) (n := 0) (b := 20) (vs := []) (ci := 0) (fun l => C_x_readsStation l  M6) (lw_V q538 q540 qs9 q116 q541) nmv_X1_readsStation rfl (by omega) (by decide) rfl (fun h => sh_k1 h 0 rfl) rfl (Nat.le_of_ble_eq_true rfl) dX1_readsErrand_90 (fun v6 M7 => ?_)
          refine J_ck (fun h5 => ?_)
          refine J_iast (pc := 93) (a := 48) (fun h => sh_a h 28 rfl h5) (fun h => Sh_si h) dX1_readsErrand_93 ?_
          refine J_ltM (fun M8 => ?_)
          refine J_aload_n (pc := 94) dX1_readsErrand_94 rfl ?_
          refine J_get (pc := 95) (c := 0) (.ref 48) rfl in_X1 29 (by decide) q206 rfl (fun h => sh_k1 h 0 rfl) (fun h _ => fv_ref (Or.inr ⟨_, rfl⟩) (sh_r h 27 rfl)) dX1_readsErrand_95 ?_
          refine J_iload_n (pc := 98) dX1_readsErrand_98 rfl ?_
          refine J_ck (fun h6 => ?_)
          refine J_iald (pc := 99) (a := 48) (fun h => sh_a h 28 rfl h6) dX1_readsErrand_99 ?_
          refine J_if_lt (pc := 100) 112 dX1_readsErrand_100 rfl (fun h => if_pos h) (fun h => if_neg h) (fun _ => ?_) (fun _ => ?_)
          · refine J_iconst (pc := 112) 0 dX1_readsErrand_112 (by decide) ?_
            exact J_zret (pc := 113) rfl dX1_readsErrand_113
          · refine J_aload_n (pc := 103) dX1_readsErrand_103 rfl ?_
            refine J_bipush (pc := 104) 61 dX1_readsErrand_104 (by decide) ?_
            refine J_callV (pc := 106) (n := 1) (b := 20) (vs := [.int 61]) (ci := 0) (fun l => C_x_eats l 61 M8) (lw_V q510 q512 qs4 q116 q513) nmv_X1_eats rfl (by omega) (by decide) rfl (fun h => sh_k1 h 0 rfl) rfl (Nat.le_of_ble_eq_true rfl) dX1_readsErrand_106 (fun v7 M9 => ?_)
            refine J_if_ne (pc := 109) 114 dX1_readsErrand_109 rfl (fun h => if_neg h) (fun h => if_pos h) (fun _ => ?_) (fun _ => ?_)
            · refine J_aload_n (pc := 114) dX1_readsErrand_114 rfl ?_
              refine J_get (pc := 115) (c := 0) (.ref 49) rfl in_X1 30 (by decide) q207 rfl (fun h => sh_k1 h 0 rfl) (fun h _ => fv_ref (Or.inr ⟨_, rfl⟩) (sh_r h 28 rfl)) dX1_readsErrand_115 ?_
              refine J_iload_n (pc := 118) dX1_readsErrand_118 rfl ?_
              refine J_aload_n (pc := 119) dX1_readsErrand_119 rfl ?_
              refine J_iconst (pc := 120) 2 dX1_readsErrand_120 (by decide) ?_
              refine J_callV (pc := 121) (n := 1) (b := 20) (vs := [.int 2]) (ci := 0) (fun l => C_x_number l 2 M9) (lw_V q542 q544 qs10 q116 q545) nmv_X1_number rfl (by omega) (by decide) rfl (fun h => sh_k1 h 0 rfl) rfl (Nat.le_of_ble_eq_true rfl) dX1_readsErrand_121 (fun v8 M10 => ?_)
              refine J_ck (fun h7 => ?_)
              refine J_iast (pc := 124) (a := 49) (fun h => sh_a h 29 rfl h7) (fun h => Sh_si h) dX1_readsErrand_124 ?_
              refine J_ltM (fun M11 => ?_)
              refine J_aload_n (pc := 125) dX1_readsErrand_125 rfl ?_
              refine J_dup (pc := 126) dX1_readsErrand_126 rfl ?_
              refine J_get (pc := 127) (c := 0) (.int (M11.i 20 24)) rfl in_X1 24 (by decide) q201 rfl (fun h => sh_k1 h 0 rfl) (fun _ _ => rfl) dX1_readsErrand_127 ?_
              refine J_iconst (pc := 130) 1 dX1_readsErrand_130 (by decide) ?_
              refine J_iadd (pc := 131) dX1_readsErrand_131 ?_
              refine J_put (pc := 132) (a := 20) (v := .int ((M11.i 20 24) + 1)) (M' := M11.si 20 24 ((M11.i 20 24) + 1)) (c := 0) rfl in_X1 tyX1_ok fnX1 24 (by decide) q201 rfl (Or.inl rfl) (fun h => sh_k1 h 0 rfl) (fun _ => rfl) (fun _ => rfl) ⟨⟨rfl, rfl⟩, rfl⟩ (fun _ hb => up2_same hb) (fun _ _ => rfl) (fun _ _ => rfl) (put_i (fun _ _ _ => rfl)) (fun h => Sh_si h) dX1_readsErrand_132 ?_
              refine J_ltM (fun M12 => ?_)
              refine J_aload_n (pc := 135) dX1_readsErrand_135 rfl ?_
              refine J_get (pc := 136) (c := 0) (.ref 49) rfl in_X1 30 (by decide) q207 rfl (fun h => sh_k1 h 0 rfl) (fun h _ => fv_ref (Or.inr ⟨_, rfl⟩) (sh_r h 28 rfl)) dX1_readsErrand_136 ?_
              refine J_iload_n (pc := 139) dX1_readsErrand_139 rfl ?_
              refine J_ck (fun h8 => ?_)
              refine J_iald (pc := 140) (a := 49) (fun h => sh_a h 29 rfl h8) dX1_readsErrand_140 ?_
              refine J_if_lt (pc := 141) 148 dX1_readsErrand_141 rfl (fun h => if_pos h) (fun h => if_neg h) (fun _ => ?_) (fun _ => ?_)
              · refine J_iconst (pc := 148) 0 dX1_readsErrand_148 (by decide) ?_
                exact J_zret (pc := 149) rfl dX1_readsErrand_149
              · refine J_iconst (pc := 144) 1 dX1_readsErrand_144 (by decide) ?_
                refine J_goto (pc := 145) 149 dX1_readsErrand_145 rfl ?_
                exact J_zret (pc := 149) rfl dX1_readsErrand_149
            · refine J_iconst (pc := 112) 0 dX1_readsErrand_112 (by decide) ?_
              exact J_zret (pc := 113) rfl dX1_readsErrand_113
        · refine J_iconst (pc := 82) 0 dX1_readsErrand_82 (by decide) ?_
          exact J_zret (pc := 83) rfl dX1_readsErrand_83
      · refine J_iconst (pc := 59) 0 dX1_readsErrand_59 (by decide) ?_
        exact J_zret (pc := 60) rfl dX1_readsErrand_60
    refine J_if_eq (pc := 36) 48 dX1_readsErrand_36 rfl (fun h => if_pos h) (fun h => if_neg h) (fun _ => ?_) (fun _ => ?_)
    · refine J_iconst (pc := 48) (-1) dX1_readsErrand_48 (by decide) ?_
      exact J_sub (A := [some (.ref 20), some (.int v1)]) ⟨rfl, ⟨rfl, trivial⟩⟩ (hj1 (-1) M2)
    · refine J_aload_n (pc := 39) dX1_readsErrand_39 rfl ?_
      refine J_ldcS (pc := 40) (i := 1) rfl rfl dX1_readsErrand_40 ?_
      refine J_callV (pc := 42) (n := 1) (b := 20) (vs := [.ref 2]) (ci := 0) (fun l => C_x_takesOf l 2 M2) (lw_V q417 q419 qs2 q116 q420) nmv_X1_takesOf rfl (by omega) (by decide) rfl (fun h => sh_k1 h 0 rfl) rfl (Nat.le_of_ble_eq_true rfl) dX1_readsErrand_42 (fun v9 M13 => ?_)
      refine J_goto (pc := 45) 49 dX1_readsErrand_45 rfl ?_
      exact J_sub (A := [some (.ref 20), some (.int v1)]) ⟨rfl, ⟨rfl, trivial⟩⟩ (hj1 v9 M13)
  · refine J_iconst (pc := 11) 0 dX1_readsErrand_11 (by decide) ?_
    exact J_zret (pc := 12) rfl dX1_readsErrand_12

theorem C_x_readsErrand (l : Launch) (M : PM) : Ctr l Sh yX1_readsErrand cX1_readsErrand 2 (some .boolean) 9 rvI [.ref 20] M (x_readsErrand M) := Ctr.of (by decide +kernel) (Nat.le_of_ble_eq_true rfl) (fun G => t_x_readsErrand G M)

abbrev T_x_errands (G : JG) (M : PM) (pc : Nat) (L : List (Option Value)) (S : List Value) (o : Option (Int32 × PM)) : Prop := JJ G cX1_errands yX1_errands 6 10 (some .int) Sh (finR G Sh rvI) M pc L S o
def x_errands_L25 (c1 : Int32) (k56 : Int32 → PM → Option (Int32 × PM)) : Nat → Int32 → Int32 → PM → Option (Int32 × PM)
  | 0, _, _, _ => none
  | n + 1, v2, v3, M3 =>
    if v3 = 0 then (k56 v2 M3)
    else (bd (x_readsErrand M3) fun v4 M4 =>
    jn (fun (v5 : Int32) (M5 : PM) =>
    x_errands_L25 c1 k56 n v4 v5 M5) fun j1 =>
    if v4 = 0 then (j1 0 M4)
    else (bd (x_eats 59 M4) fun v6 M6 =>
    if v6 = 0 then (j1 0 M6)
    else (j1 1 M6)))

set_option maxHeartbeats 4000000 in
theorem t_x_errands_L25 (G : JG) (c1 : Int32) (k56 : Int32 → PM → Option (Int32 × PM)) (hk56 : ∀ z2 Me, T_x_errands G  Me 56 [some (.ref 20), some (.int c1), some (.int z2), none, none, none] [] (k56 z2 Me)) : ∀ (n : Nat) (v2 : Int32) (v3 : Int32) (M3 : PM), T_x_errands G  M3 25 [some (.ref 20), some (.int c1), some (.int v2), some (.int v3), none, none] [] (x_errands_L25 c1 k56 n v2 v3 M3) := by
  intro n
  induction n with
  | zero =>
    intro v2 v3 M3
    exact J_none
  | succ n ih =>
    intro v2 v3 M3
    rw [x_errands_L25]
    refine J_iload_n (pc := 25) dX1_errands_25 rfl ?_
    refine J_if_eq (pc := 26) 56 dX1_errands_26 rfl (fun h => if_pos h) (fun h => if_neg h) (fun _ => ?_) (fun _ => ?_)
    · exact J_sub (A := [some (.ref 20), some (.int c1), some (.int v2), none, none, none]) ⟨rfl, ⟨rfl, ⟨rfl, trivial⟩⟩⟩ (hk56 v2 M3)
    · refine J_aload_n (pc := 29) dX1_errands_29 rfl ?_
      refine J_callV (pc := 30) (n := 0) (b := 20) (vs := []) (ci := 0) (fun l => C_x_readsErrand l  M3) (lw_V q556 q558 qs12 q116 q559) nmv_X1_readsErrand rfl (by omega) (by decide) rfl (fun h => sh_k1 h 0 rfl) rfl (Nat.le_of_ble_eq_true rfl) dX1_errands_30 (fun v4 M4 => ?_)
      refine J_istore_n (pc := 33) dX1_errands_33 (by decide) ?_
      refine J_iload_n (pc := 34) dX1_errands_34 rfl ?_
      refine J_jn (P := fun J => ∀ (v5 : Int32) (M5 : PM), T_x_errands G  M5 52 [some (.ref 20), some (.int c1), some (.int v4), none, none, none] [.int v5] (J v5 M5)) (fun v5 M5 => ?_) (fun j1 hj1 => ?_)
      · refine J_istore_n (pc := 52) dX1_errands_52 (by decide) ?_
        refine J_goto (pc := 53) 25 dX1_errands_53 rfl ?_
        exact J_sub (A := [some (.ref 20), some (.int c1), some (.int v4), some (.int v5), none, none]) ⟨rfl, ⟨rfl, ⟨rfl, ⟨rfl, trivial⟩⟩⟩⟩ (ih v4 v5 M5)
      refine J_if_eq (pc := 35) 51 dX1_errands_35 rfl (fun h => if_pos h) (fun h => if_neg h) (fun _ => ?_) (fun _ => ?_)
      · refine J_iconst (pc := 51) 0 dX1_errands_51 (by decide) ?_
        exact J_sub (A := [some (.ref 20), some (.int c1), some (.int v4), none, none, none]) ⟨rfl, ⟨rfl, ⟨rfl, trivial⟩⟩⟩ (hj1 0 M4)
      · refine J_aload_n (pc := 38) dX1_errands_38 rfl ?_
        refine J_bipush (pc := 39) 59 dX1_errands_39 (by decide) ?_
        refine J_callV (pc := 41) (n := 1) (b := 20) (vs := [.int 59]) (ci := 0) (fun l => C_x_eats l 59 M4) (lw_V q510 q512 qs4 q116 q513) nmv_X1_eats rfl (by omega) (by decide) rfl (fun h => sh_k1 h 0 rfl) rfl (Nat.le_of_ble_eq_true rfl) dX1_errands_41 (fun v6 M6 => ?_)
        refine J_if_eq (pc := 44) 51 dX1_errands_44 rfl (fun h => if_pos h) (fun h => if_neg h) (fun _ => ?_) (fun _ => ?_)
        · refine J_iconst (pc := 51) 0 dX1_errands_51 (by decide) ?_
          exact J_sub (A := [some (.ref 20), some (.int c1), some (.int v4), none, none, none]) ⟨rfl, ⟨rfl, ⟨rfl, trivial⟩⟩⟩ (hj1 0 M6)
        · refine J_iconst (pc := 47) 1 dX1_errands_47 (by decide) ?_
          refine J_goto (pc := 48) 52 dX1_errands_48 rfl ?_
          exact J_sub (A := [some (.ref 20), some (.int c1), some (.int v4), none, none, none]) ⟨rfl, ⟨rfl, ⟨rfl, trivial⟩⟩⟩ (hj1 1 M6)

def x_errands_L83 (c5 : Int32) (k179 : PM → Option (Int32 × PM)) : Nat → PM → Option (Int32 × PM)
  | 0, _ => none
  | n + 1, M9 =>
    if (M9.i 20 24) ≤ (M9.i 20 13) then (k179 M9)
    else (ck (M9.i 20 13) 8 <|
    ck (M9.i 20 13) 8 <|
    lt (M9.si 35 (ix (M9.i 20 13)) (M9.i 46 (ix (M9.i 20 13)))) fun M10 =>
    ck (M10.i 20 13) 8 <|
    ck (M10.i 20 13) 8 <|
    lt (M10.si 36 (ix (M10.i 20 13)) (M10.i 47 (ix (M10.i 20 13)))) fun M11 =>
    ck (M11.i 20 13) 8 <|
    ck (M11.i 20 13) 8 <|
    lt (M11.si 37 (ix (M11.i 20 13)) (M11.i 48 (ix (M11.i 20 13)))) fun M12 =>
    ck (M12.i 20 13) 8 <|
    ck (M12.i 20 13) 8 <|
    lt (M12.si 38 (ix (M12.i 20 13)) (M12.i 49 (ix (M12.i 20 13)))) fun M13 =>
    lt (M13.si 20 13 ((M13.i 20 13) + 1)) fun M14 =>
    x_errands_L83 c5 k179 n M14)

set_option maxHeartbeats 4000000 in
theorem t_x_errands_L83 (G : JG) (c5 : Int32) (k179 : PM → Option (Int32 × PM)) (hk179 : ∀ Me, T_x_errands G  Me 179 [some (.ref 20), none, none, none, none, some (.int c5)] [] (k179 Me)) : ∀ (n : Nat) (M9 : PM), T_x_errands G  M9 83 [some (.ref 20), none, none, none, none, some (.int c5)] [] (x_errands_L83 c5 k179 n  M9) := by
  intro n
  induction n with
  | zero =>
    intro M9
    exact J_none
  | succ n ih =>
    intro M9
    rw [x_errands_L83]
    refine J_aload_n (pc := 83) dX1_errands_83 rfl ?_
    refine J_get (pc := 84) (c := 0) (.int (M9.i 20 13)) rfl in_X1 13 (by decide) q190 rfl (fun h => sh_k1 h 0 rfl) (fun _ _ => rfl) dX1_errands_84 ?_
    refine J_aload_n (pc := 87) dX1_errands_87 rfl ?_
    refine J_get (pc := 88) (c := 0) (.int (M9.i 20 24)) rfl in_X1 24 (by decide) q201 rfl (fun h => sh_k1 h 0 rfl) (fun _ _ => rfl) dX1_errands_88 ?_
    refine J_icmp_ge (pc := 91) 179 dX1_errands_91 rfl (fun h => if_pos h) (fun h => if_neg h) (fun _ => ?_) (fun _ => ?_)
    · exact J_sub (A := [some (.ref 20), none, none, none, none, some (.int c5)]) ⟨rfl, ⟨rfl, trivial⟩⟩ (hk179 M9)
    · refine J_aload_n (pc := 94) dX1_errands_94 rfl ?_
      refine J_get (pc := 95) (c := 0) (.ref 35) rfl in_X1 6 (by decide) q183 rfl (fun h => sh_k1 h 0 rfl) (fun h _ => fv_ref (Or.inr ⟨_, rfl⟩) (sh_r h 14 rfl)) dX1_errands_95 ?_
      refine J_aload_n (pc := 98) dX1_errands_98 rfl ?_
      refine J_get (pc := 99) (c := 0) (.int (M9.i 20 13)) rfl in_X1 13 (by decide) q190 rfl (fun h => sh_k1 h 0 rfl) (fun _ _ => rfl) dX1_errands_99 ?_
      refine J_aload_n (pc := 102) dX1_errands_102 rfl ?_
      refine J_get (pc := 103) (c := 0) (.ref 46) rfl in_X1 27 (by decide) q204 rfl (fun h => sh_k1 h 0 rfl) (fun h _ => fv_ref (Or.inr ⟨_, rfl⟩) (sh_r h 25 rfl)) dX1_errands_103 ?_
      refine J_aload_n (pc := 106) dX1_errands_106 rfl ?_
      refine J_get (pc := 107) (c := 0) (.int (M9.i 20 13)) rfl in_X1 13 (by decide) q190 rfl (fun h => sh_k1 h 0 rfl) (fun _ _ => rfl) dX1_errands_107 ?_
      refine J_ck (fun h1 => ?_)
      refine J_iald (pc := 110) (a := 46) (fun h => sh_a h 26 rfl h1) dX1_errands_110 ?_
      refine J_ck (fun h2 => ?_)
      refine J_iast (pc := 111) (a := 35) (fun h => sh_a h 15 rfl h2) (fun h => Sh_si h) dX1_errands_111 ?_
      refine J_ltM (fun M10 => ?_)
      refine J_aload_n (pc := 112) dX1_errands_112 rfl ?_
      refine J_get (pc := 113) (c := 0) (.ref 36) rfl in_X1 7 (by decide) q184 rfl (fun h => sh_k1 h 0 rfl) (fun h _ => fv_ref (Or.inr ⟨_, rfl⟩) (sh_r h 15 rfl)) dX1_errands_113 ?_
      refine J_aload_n (pc := 116) dX1_errands_116 rfl ?_
      refine J_get (pc := 117) (c := 0) (.int (M10.i 20 13)) rfl in_X1 13 (by decide) q190 rfl (fun h => sh_k1 h 0 rfl) (fun _ _ => rfl) dX1_errands_117 ?_
      refine J_aload_n (pc := 120) dX1_errands_120 rfl ?_
      refine J_get (pc := 121) (c := 0) (.ref 47) rfl in_X1 28 (by decide) q205 rfl (fun h => sh_k1 h 0 rfl) (fun h _ => fv_ref (Or.inr ⟨_, rfl⟩) (sh_r h 26 rfl)) dX1_errands_121 ?_
      refine J_aload_n (pc := 124) dX1_errands_124 rfl ?_
      refine J_get (pc := 125) (c := 0) (.int (M10.i 20 13)) rfl in_X1 13 (by decide) q190 rfl (fun h => sh_k1 h 0 rfl) (fun _ _ => rfl) dX1_errands_125 ?_
      refine J_ck (fun h3 => ?_)
      refine J_iald (pc := 128) (a := 47) (fun h => sh_a h 27 rfl h3) dX1_errands_128 ?_
      refine J_ck (fun h4 => ?_)
      refine J_iast (pc := 129) (a := 36) (fun h => sh_a h 16 rfl h4) (fun h => Sh_si h) dX1_errands_129 ?_
      refine J_ltM (fun M11 => ?_)
      refine J_aload_n (pc := 130) dX1_errands_130 rfl ?_
      refine J_get (pc := 131) (c := 0) (.ref 37) rfl in_X1 8 (by decide) q185 rfl (fun h => sh_k1 h 0 rfl) (fun h _ => fv_ref (Or.inr ⟨_, rfl⟩) (sh_r h 16 rfl)) dX1_errands_131 ?_
      refine J_aload_n (pc := 134) dX1_errands_134 rfl ?_
      refine J_get (pc := 135) (c := 0) (.int (M11.i 20 13)) rfl in_X1 13 (by decide) q190 rfl (fun h => sh_k1 h 0 rfl) (fun _ _ => rfl) dX1_errands_135 ?_
      refine J_aload_n (pc := 138) dX1_errands_138 rfl ?_
      refine J_get (pc := 139) (c := 0) (.ref 48) rfl in_X1 29 (by decide) q206 rfl (fun h => sh_k1 h 0 rfl) (fun h _ => fv_ref (Or.inr ⟨_, rfl⟩) (sh_r h 27 rfl)) dX1_errands_139 ?_
      refine J_aload_n (pc := 142) dX1_errands_142 rfl ?_
      refine J_get (pc := 143) (c := 0) (.int (M11.i 20 13)) rfl in_X1 13 (by decide) q190 rfl (fun h => sh_k1 h 0 rfl) (fun _ _ => rfl) dX1_errands_143 ?_
      refine J_ck (fun h5 => ?_)
      refine J_iald (pc := 146) (a := 48) (fun h => sh_a h 28 rfl h5) dX1_errands_146 ?_
      refine J_ck (fun h6 => ?_)
      refine J_iast (pc := 147) (a := 37) (fun h => sh_a h 17 rfl h6) (fun h => Sh_si h) dX1_errands_147 ?_
      refine J_ltM (fun M12 => ?_)
      refine J_aload_n (pc := 148) dX1_errands_148 rfl ?_
      refine J_get (pc := 149) (c := 0) (.ref 38) rfl in_X1 9 (by decide) q186 rfl (fun h => sh_k1 h 0 rfl) (fun h _ => fv_ref (Or.inr ⟨_, rfl⟩) (sh_r h 17 rfl)) dX1_errands_149 ?_
      refine J_aload_n (pc := 152) dX1_errands_152 rfl ?_
      refine J_get (pc := 153) (c := 0) (.int (M12.i 20 13)) rfl in_X1 13 (by decide) q190 rfl (fun h => sh_k1 h 0 rfl) (fun _ _ => rfl) dX1_errands_153 ?_
      refine J_aload_n (pc := 156) dX1_errands_156 rfl ?_
      refine J_get (pc := 157) (c := 0) (.ref 49) rfl in_X1 30 (by decide) q207 rfl (fun h => sh_k1 h 0 rfl) (fun h _ => fv_ref (Or.inr ⟨_, rfl⟩) (sh_r h 28 rfl)) dX1_errands_157 ?_
      refine J_aload_n (pc := 160) dX1_errands_160 rfl ?_
      refine J_get (pc := 161) (c := 0) (.int (M12.i 20 13)) rfl in_X1 13 (by decide) q190 rfl (fun h => sh_k1 h 0 rfl) (fun _ _ => rfl) dX1_errands_161 ?_
      refine J_ck (fun h7 => ?_)
      refine J_iald (pc := 164) (a := 49) (fun h => sh_a h 29 rfl h7) dX1_errands_164 ?_
      refine J_ck (fun h8 => ?_)
      refine J_iast (pc := 165) (a := 38) (fun h => sh_a h 18 rfl h8) (fun h => Sh_si h) dX1_errands_165 ?_
      refine J_ltM (fun M13 => ?_)
      refine J_aload_n (pc := 166) dX1_errands_166 rfl ?_
      refine J_dup (pc := 167) dX1_errands_167 rfl ?_
      refine J_get (pc := 168) (c := 0) (.int (M13.i 20 13)) rfl in_X1 13 (by decide) q190 rfl (fun h => sh_k1 h 0 rfl) (fun _ _ => rfl) dX1_errands_168 ?_
      refine J_iconst (pc := 171) 1 dX1_errands_171 (by decide) ?_
      refine J_iadd (pc := 172) dX1_errands_172 ?_
      refine J_put (pc := 173) (a := 20) (v := .int ((M13.i 20 13) + 1)) (M' := M13.si 20 13 ((M13.i 20 13) + 1)) (c := 0) rfl in_X1 tyX1_ok fnX1 13 (by decide) q190 rfl (Or.inl rfl) (fun h => sh_k1 h 0 rfl) (fun _ => rfl) (fun _ => rfl) ⟨⟨rfl, rfl⟩, rfl⟩ (fun _ hb => up2_same hb) (fun _ _ => rfl) (fun _ _ => rfl) (put_i (fun _ _ _ => rfl)) (fun h => Sh_si h) dX1_errands_173 ?_
      refine J_ltM (fun M14 => ?_)
      refine J_goto (pc := 176) 83 dX1_errands_176 rfl ?_
      exact J_sub (A := [some (.ref 20), none, none, none, none, some (.int c5)]) ⟨rfl, ⟨rfl, trivial⟩⟩ (ih M14)

def x_errands (M : PM) : Option (Int32 × PM) :=
    bd (x_begins 76 M) fun v1 M1 =>
    if v1 = 0 then (some (0, M1))
    else (lt (M1.si 20 24 (M1.i 20 13)) fun M2 =>
    x_errands_L25 v1 (fun (v7 : Int32) (M7 : PM) =>
    bd (x_faultOf v1 v7 M7) fun v8 M8 =>
    if 0 ≤ v8 then (lt ((M8.i 20 24) - (M8.i 20 13)) fun v9 =>
    x_errands_L83 v9 (fun (M15 : PM) =>
    bd (x_isNew M15) fun _ M16 =>
    some (v9, M16)) FU M8)
    else (some (v8, M8))) FU 1 1 M2)

set_option maxHeartbeats 4000000 in
theorem t_x_errands (G : JG) (M : PM) : T_x_errands G  M 0 (ent [.ref 20] 6) [] (x_errands M) := by
  unfold x_errands
  refine J_aload_n (pc := 0) dX1_errands_0 rfl ?_
  refine J_bipush (pc := 1) 76 dX1_errands_1 (by decide) ?_
  refine J_callV (pc := 3) (n := 1) (b := 20) (vs := [.int 76]) (ci := 0) (fun l => C_x_begins l 76 M) (lw_V q405 q407 qs0 q116 q408) nmv_X1_begins rfl (by omega) (by decide) rfl (fun h => sh_k1 h 0 rfl) rfl (Nat.le_of_ble_eq_true rfl) dX1_errands_3 (fun v1 M1 => ?_)
  refine J_istore_n (pc := 6) dX1_errands_6 (by decide) ?_
  refine J_iload_n (pc := 7) dX1_errands_7 rfl ?_
  refine J_if_ne (pc := 8) 13 dX1_errands_8 rfl (fun h => if_neg h) (fun h => if_pos h) (fun _ => ?_) (fun _ => ?_)
  · refine J_aload_n (pc := 13) dX1_errands_13 rfl ?_
    refine J_aload_n (pc := 14) dX1_errands_14 rfl ?_
    refine J_get (pc := 15) (c := 0) (.int (M1.i 20 13)) rfl in_X1 13 (by decide) q190 rfl (fun h => sh_k1 h 0 rfl) (fun _ _ => rfl) dX1_errands_15 ?_
    refine J_put (pc := 18) (a := 20) (v := .int (M1.i 20 13)) (M' := M1.si 20 24 (M1.i 20 13)) (c := 0) rfl in_X1 tyX1_ok fnX1 24 (by decide) q201 rfl (Or.inl rfl) (fun h => sh_k1 h 0 rfl) (fun _ => rfl) (fun _ => rfl) ⟨⟨rfl, rfl⟩, rfl⟩ (fun _ hb => up2_same hb) (fun _ _ => rfl) (fun _ _ => rfl) (put_i (fun _ _ _ => rfl)) (fun h => Sh_si h) dX1_errands_18 ?_
    refine J_ltM (fun M2 => ?_)
    refine J_iconst (pc := 21) 1 dX1_errands_21 (by decide) ?_
    refine J_istore_n (pc := 22) dX1_errands_22 (by decide) ?_
    refine J_iconst (pc := 23) 1 dX1_errands_23 (by decide) ?_
    refine J_istore_n (pc := 24) dX1_errands_24 (by decide) ?_
    refine J_sub (A := [some (.ref 20), some (.int v1), some (.int 1), some (.int 1), none, none]) ⟨rfl, ⟨rfl, ⟨rfl, ⟨rfl, trivial⟩⟩⟩⟩ (t_x_errands_L25 G v1 _ ?_ FU 1 1 M2)
    · intro v7 M7
      refine J_aload_n (pc := 56) dX1_errands_56 rfl ?_
      refine J_iload_n (pc := 57) dX1_errands_57 rfl ?_
      refine J_iload_n (pc := 58) dX1_errands_58 rfl ?_
      refine J_callV (pc := 59) (n := 2) (b := 20) (vs := [.int v1, .int v7]) (ci := 0) (fun l => C_x_faultOf l v1 v7 M7) (lw_V q518 q520 qs6 q116 q521) nmv_X1_faultOf rfl (by omega) (by decide) rfl (fun h => sh_k1 h 0 rfl) rfl (Nat.le_of_ble_eq_true rfl) dX1_errands_59 (fun v8 M8 => ?_)
      refine J_istore (pc := 62) dX1_errands_62 (by decide) ?_
      refine J_iload (pc := 64) dX1_errands_64 rfl ?_
      refine J_if_ge (pc := 66) 72 dX1_errands_66 rfl (fun h => if_pos h) (fun h => if_neg h) (fun _ => ?_) (fun _ => ?_)
      · refine J_aload_n (pc := 72) dX1_errands_72 rfl ?_
        refine J_get (pc := 73) (c := 0) (.int (M8.i 20 24)) rfl in_X1 24 (by decide) q201 rfl (fun h => sh_k1 h 0 rfl) (fun _ _ => rfl) dX1_errands_73 ?_
        refine J_aload_n (pc := 76) dX1_errands_76 rfl ?_
        refine J_get (pc := 77) (c := 0) (.int (M8.i 20 13)) rfl in_X1 13 (by decide) q190 rfl (fun h => sh_k1 h 0 rfl) (fun _ _ => rfl) dX1_errands_77 ?_
        refine J_isub (pc := 80) dX1_errands_80 ?_
        refine J_lt (β := Int32) (v := ((M8.i 20 24) - (M8.i 20 13))) (L := fun _ => _) (S := fun v9 => [.int v9]) (fun v9 => ?_)
        refine J_istore (pc := 81) dX1_errands_81 (by decide) ?_
        refine J_sub (A := [some (.ref 20), none, none, none, none, some (.int v9)]) ⟨rfl, ⟨rfl, trivial⟩⟩ (t_x_errands_L83 G v9 _ ?_ FU M8)
        · intro M15
          refine J_aload_n (pc := 179) dX1_errands_179 rfl ?_
          refine J_callV (pc := 180) (n := 0) (b := 20) (vs := []) (ci := 0) (fun l => C_x_isNew l  M15) (lw_V q525 q527 qs7 q116 q528) nmv_X1_isNew rfl (by omega) (by decide) rfl (fun h => sh_k1 h 0 rfl) rfl (Nat.le_of_ble_eq_true rfl) dX1_errands_180 (fun _ M16 => ?_)
          refine J_iload (pc := 183) dX1_errands_183 rfl ?_
          exact J_iret (pc := 185) dX1_errands_185
      · refine J_iload (pc := 69) dX1_errands_69 rfl ?_
        exact J_iret (pc := 71) dX1_errands_71
  · refine J_iconst (pc := 11) 0 dX1_errands_11 (by decide) ?_
    exact J_iret (pc := 12) dX1_errands_12

theorem C_x_errands (l : Launch) (M : PM) : Ctr l Sh yX1_errands cX1_errands 6 (some .int) 10 rvI [.ref 20] M (x_errands M) := Ctr.of (by decide +kernel) (Nat.le_of_ble_eq_true rfl) (fun G => t_x_errands G M)

abbrev T_x_road (G : JG) (M : PM) (pc : Nat) (L : List (Option Value)) (S : List Value) (o : Option (Int32 × PM)) : Prop := JJ G cX1_road yX1_road 5 2 (some .int) Sh (finR G Sh rvI) M pc L S o
def x_road_L4 (c1 : Int32) (k34 : Int32 → PM → Option (Int32 × PM)) : Nat → Int32 → Int32 → PM → Option (Int32 × PM)
  | 0, _, _, _ => none
  | n + 1, v1, v2, M1 =>
    if (M1.i 20 12) ≤ v2 then (k34 v1 M1)
    else (ck v2 4 <|
    lt (imax v1 ((M1.i 22 (ix v2)) + 1)) fun v3 =>
    lt (v2 + 1) fun v4 =>
    x_road_L4 c1 k34 n v3 v4 M1)

set_option maxHeartbeats 4000000 in
theorem t_x_road_L4 (G : JG) (c1 : Int32) (k34 : Int32 → PM → Option (Int32 × PM)) (hk34 : ∀ z2 Me, T_x_road G  Me 34 [some (.ref 20), some (.int c1), some (.int z2), none, none] [] (k34 z2 Me)) : ∀ (n : Nat) (v1 : Int32) (v2 : Int32) (M1 : PM), T_x_road G  M1 4 [some (.ref 20), some (.int c1), some (.int v1), some (.int v2), none] [] (x_road_L4 c1 k34 n v1 v2 M1) := by
  intro n
  induction n with
  | zero =>
    intro v1 v2 M1
    exact J_none
  | succ n ih =>
    intro v1 v2 M1
    rw [x_road_L4]
    refine J_iload_n (pc := 4) dX1_road_4 rfl ?_
    refine J_aload_n (pc := 5) dX1_road_5 rfl ?_
    refine J_get (pc := 6) (c := 0) (.int (M1.i 20 12)) rfl in_X1 12 (by decide) q189 rfl (fun h => sh_k1 h 0 rfl) (fun _ _ => rfl) dX1_road_6 ?_
    refine J_icmp_ge (pc := 9) 34 dX1_road_9 rfl (fun h => if_pos h) (fun h => if_neg h) (fun _ => ?_) (fun _ => ?_)
    · exact J_sub (A := [some (.ref 20), some (.int c1), some (.int v1), none, none]) ⟨rfl, ⟨rfl, ⟨rfl, trivial⟩⟩⟩ (hk34 v1 M1)
    · refine J_iload_n (pc := 12) dX1_road_12 rfl ?_
      refine J_aload_n (pc := 13) dX1_road_13 rfl ?_
      refine J_get (pc := 14) (c := 0) (.ref 21) rfl in_X1 0 (by decide) q177 rfl (fun h => sh_k1 h 0 rfl) (fun h _ => fv_ref (Or.inl ⟨_, rfl⟩) (sh_r h 4 rfl)) dX1_road_14 ?_
      refine J_getN (host := "TollOnVowels") (pc := 17) (c := 1) (.ref 22) rfl in_X2 0 (by decide) (by decide +kernel) rfl (fun h => sh_k1 h 1 rfl) (fun h _ => fv_ref (Or.inr ⟨_, rfl⟩) (sh_r h 0 rfl)) dX1_road_17 ?_
      refine J_iload_n (pc := 20) dX1_road_20 rfl ?_
      refine J_ck (fun h1 => ?_)
      refine J_iald (pc := 21) (a := 22) (fun h => sh_a h 2 rfl h1) dX1_road_21 ?_
      refine J_iconst (pc := 22) 1 dX1_road_22 (by decide) ?_
      refine J_iadd (pc := 23) dX1_road_23 ?_
      refine J_max (pc := 24) (by omega) q564 q454 q119 q455 (Nat.le_of_ble_eq_true rfl) dX1_road_24 ?_
      refine J_lt (β := Int32) (v := (imax v1 ((M1.i 22 (ix v2)) + 1))) (L := fun _ => _) (S := fun v3 => [.int v3]) (fun v3 => ?_)
      refine J_istore_n (pc := 27) dX1_road_27 (by decide) ?_
      refine J_iincL (pc := 28) (n := 1) (by decide) dX1_road_28 rfl (by decide) (fun v4 => ?_)
      refine J_goto (pc := 31) 4 dX1_road_31 rfl ?_
      exact J_sub (A := [some (.ref 20), some (.int c1), some (.int v3), some (.int v4), none]) ⟨rfl, ⟨rfl, ⟨rfl, ⟨rfl, trivial⟩⟩⟩⟩ (ih v3 v4 M1)

def x_road_L36 (c1 : Int32) (k63 : Int32 → PM → Option (Int32 × PM)) : Nat → Int32 → Int32 → PM → Option (Int32 × PM)
  | 0, _, _, _ => none
  | n + 1, v6, v7, M3 =>
    if (M3.i 20 13) ≤ v7 then (k63 v6 M3)
    else (ck v7 8 <|
    lt (imax v6 ((M3.i 37 (ix v7)) + 1)) fun v8 =>
    lt (v7 + 1) fun v9 =>
    x_road_L36 c1 k63 n v8 v9 M3)

set_option maxHeartbeats 4000000 in
theorem t_x_road_L36 (G : JG) (c1 : Int32) (k63 : Int32 → PM → Option (Int32 × PM)) (hk63 : ∀ z2 Me, T_x_road G  Me 63 [some (.ref 20), some (.int c1), some (.int z2), none, none] [] (k63 z2 Me)) : ∀ (n : Nat) (v6 : Int32) (v7 : Int32) (M3 : PM), T_x_road G  M3 36 [some (.ref 20), some (.int c1), some (.int v6), some (.int v7), none] [] (x_road_L36 c1 k63 n v6 v7 M3) := by
  intro n
  induction n with
  | zero =>
    intro v6 v7 M3
    exact J_none
  | succ n ih =>
    intro v6 v7 M3
    rw [x_road_L36]
    refine J_iload_n (pc := 36) dX1_road_36 rfl ?_
    refine J_aload_n (pc := 37) dX1_road_37 rfl ?_
    refine J_get (pc := 38) (c := 0) (.int (M3.i 20 13)) rfl in_X1 13 (by decide) q190 rfl (fun h => sh_k1 h 0 rfl) (fun _ _ => rfl) dX1_road_38 ?_
    refine J_icmp_ge (pc := 41) 63 dX1_road_41 rfl (fun h => if_pos h) (fun h => if_neg h) (fun _ => ?_) (fun _ => ?_)
    · exact J_sub (A := [some (.ref 20), some (.int c1), some (.int v6), none, none]) ⟨rfl, ⟨rfl, ⟨rfl, trivial⟩⟩⟩ (hk63 v6 M3)
    · refine J_iload_n (pc := 44) dX1_road_44 rfl ?_
      refine J_aload_n (pc := 45) dX1_road_45 rfl ?_
      refine J_get (pc := 46) (c := 0) (.ref 37) rfl in_X1 8 (by decide) q185 rfl (fun h => sh_k1 h 0 rfl) (fun h _ => fv_ref (Or.inr ⟨_, rfl⟩) (sh_r h 16 rfl)) dX1_road_46 ?_
      refine J_iload_n (pc := 49) dX1_road_49 rfl ?_
      refine J_ck (fun h2 => ?_)
      refine J_iald (pc := 50) (a := 37) (fun h => sh_a h 17 rfl h2) dX1_road_50 ?_
      refine J_iconst (pc := 51) 1 dX1_road_51 (by decide) ?_
      refine J_iadd (pc := 52) dX1_road_52 ?_
      refine J_max (pc := 53) (by omega) q564 q454 q119 q455 (Nat.le_of_ble_eq_true rfl) dX1_road_53 ?_
      refine J_lt (β := Int32) (v := (imax v6 ((M3.i 37 (ix v7)) + 1))) (L := fun _ => _) (S := fun v8 => [.int v8]) (fun v8 => ?_)
      refine J_istore_n (pc := 56) dX1_road_56 (by decide) ?_
      refine J_iincL (pc := 57) (n := 1) (by decide) dX1_road_57 rfl (by decide) (fun v9 => ?_)
      refine J_goto (pc := 60) 36 dX1_road_60 rfl ?_
      exact J_sub (A := [some (.ref 20), some (.int c1), some (.int v8), some (.int v9), none]) ⟨rfl, ⟨rfl, ⟨rfl, ⟨rfl, trivial⟩⟩⟩⟩ (ih v8 v9 M3)

def x_road_L93 (c3 : Int32) (k117 : PM → Option (Int32 × PM)) : Nat → Int32 → PM → Option (Int32 × PM)
  | 0, _, _ => none
  | n + 1, v14, M7 =>
    if 30 ≤ v14 then (k117 M7)
    else (ck v14 30 <|
    lt (M7.si 25 (ix v14) 0) fun M8 =>
    lt (v14 + 1) fun v15 =>
    x_road_L93 c3 k117 n v15 M8)

set_option maxHeartbeats 4000000 in
theorem t_x_road_L93 (G : JG) (c3 : Int32) (k117 : PM → Option (Int32 × PM)) (hk117 : ∀ Me, T_x_road G  Me 117 [some (.ref 20), none, none, some (.int c3), none] [] (k117 Me)) : ∀ (n : Nat) (v14 : Int32) (M7 : PM), T_x_road G  M7 93 [some (.ref 20), none, none, some (.int c3), some (.int v14)] [] (x_road_L93 c3 k117 n v14 M7) := by
  intro n
  induction n with
  | zero =>
    intro v14 M7
    exact J_none
  | succ n ih =>
    intro v14 M7
    rw [x_road_L93]
    refine J_iload (pc := 93) dX1_road_93 rfl ?_
    refine J_bipush (pc := 95) 30 dX1_road_95 (by decide) ?_
    refine J_icmp_ge (pc := 97) 117 dX1_road_97 rfl (fun h => if_pos h) (fun h => if_neg h) (fun _ => ?_) (fun _ => ?_)
    · exact J_sub (A := [some (.ref 20), none, none, some (.int c3), none]) ⟨rfl, ⟨rfl, trivial⟩⟩ (hk117 M7)
    · refine J_aload_n (pc := 100) dX1_road_100 rfl ?_
      refine J_get (pc := 101) (c := 0) (.ref 21) rfl in_X1 0 (by decide) q177 rfl (fun h => sh_k1 h 0 rfl) (fun h _ => fv_ref (Or.inl ⟨_, rfl⟩) (sh_r h 4 rfl)) dX1_road_101 ?_
      refine J_getN (host := "TollOnVowels") (pc := 104) (c := 1) (.ref 25) rfl in_X2 3 (by decide) (by decide +kernel) rfl (fun h => sh_k1 h 1 rfl) (fun h _ => fv_ref (Or.inr ⟨_, rfl⟩) (sh_r h 3 rfl)) dX1_road_104 ?_
      refine J_iload (pc := 107) dX1_road_107 rfl ?_
      refine J_iconst (pc := 109) 0 dX1_road_109 (by decide) ?_
      refine J_ck (fun h3 => ?_)
      refine J_iast (pc := 110) (a := 25) (fun h => sh_a h 5 rfl h3) (fun h => Sh_si h) dX1_road_110 ?_
      refine J_ltM (fun M8 => ?_)
      refine J_iincL (pc := 111) (n := 1) (by decide) dX1_road_111 rfl (by decide) (fun v15 => ?_)
      refine J_goto (pc := 114) 93 dX1_road_114 rfl ?_
      exact J_sub (A := [some (.ref 20), none, none, some (.int c3), some (.int v15)]) ⟨rfl, ⟨rfl, ⟨rfl, trivial⟩⟩⟩ (ih v15 M8)

def x_road (p1 : Int32) (M : PM) : Option (Int32 × PM) :=
    x_road_L4 p1 (fun (v5 : Int32) (M2 : PM) =>
    x_road_L36 p1 (fun (v10 : Int32) (M4 : PM) =>
    bd (x_in (Int32.toInt64 p1) (Int32.toInt64 v10) 6 M4) fun v11 M5 =>
    if v11 = 0 then (some ((-1), M5))
    else (lt (M5.i 20 10) fun v12 =>
    lt (M5.si 20 10 p1) fun M6 =>
    lt (5 * p1) fun v13 =>
    x_road_L93 v12 (fun (M9 : PM) =>
    bd (x_isNew M9) fun _ M10 =>
    some (v12, M10)) FU v13 M6)) FU v5 0 M2) FU 1 0 M

set_option maxHeartbeats 4000000 in
theorem t_x_road (G : JG) (p1 : Int32) (M : PM) : T_x_road G  M 0 (ent [.ref 20, .int p1] 5) [] (x_road p1 M) := by
  unfold x_road
  refine J_iconst (pc := 0) 1 dX1_road_0 (by decide) ?_
  refine J_istore_n (pc := 1) dX1_road_1 (by decide) ?_
  refine J_iconst (pc := 2) 0 dX1_road_2 (by decide) ?_
  refine J_istore_n (pc := 3) dX1_road_3 (by decide) ?_
  refine J_sub (A := [some (.ref 20), some (.int p1), some (.int 1), some (.int 0), none]) ⟨rfl, ⟨rfl, ⟨rfl, ⟨rfl, trivial⟩⟩⟩⟩ (t_x_road_L4 G p1 _ ?_ FU 1 0 M)
  · intro v5 M2
    refine J_iconst (pc := 34) 0 dX1_road_34 (by decide) ?_
    refine J_istore_n (pc := 35) dX1_road_35 (by decide) ?_
    refine J_sub (A := [some (.ref 20), some (.int p1), some (.int v5), some (.int 0), none]) ⟨rfl, ⟨rfl, ⟨rfl, ⟨rfl, trivial⟩⟩⟩⟩ (t_x_road_L36 G p1 _ ?_ FU v5 0 M2)
    · intro v10 M4
      refine J_iload_n (pc := 63) dX1_road_63 rfl ?_
      refine J_i2l (pc := 64) dX1_road_64 ?_
      refine J_iload_n (pc := 65) dX1_road_65 rfl ?_
      refine J_i2l (pc := 66) dX1_road_66 ?_
      refine J_ldc2 (pc := 67) 6 q565 dX1_road_67 ?_
      refine J_callS (pc := 70) (n := 3) (vs := [.long (Int32.toInt64 p1), .long (Int32.toInt64 v10), .long 6]) (fun l => C_x_in l (Int32.toInt64 p1) (Int32.toInt64 v10) 6 M4) (lw_S q398 q399 q116 q400) nmh_X1_in rfl (by omega) (by decide) rfl (Nat.le_of_ble_eq_true rfl) dX1_road_70 (fun v11 M5 => ?_)
      refine J_if_ne (pc := 73) 78 dX1_road_73 rfl (fun h => if_neg h) (fun h => if_pos h) (fun _ => ?_) (fun _ => ?_)
      · refine J_aload_n (pc := 78) dX1_road_78 rfl ?_
        refine J_get (pc := 79) (c := 0) (.int (M5.i 20 10)) rfl in_X1 10 (by decide) q187 rfl (fun h => sh_k1 h 0 rfl) (fun _ _ => rfl) dX1_road_79 ?_
        refine J_lt (β := Int32) (v := (M5.i 20 10)) (L := fun _ => _) (S := fun v12 => [.int v12]) (fun v12 => ?_)
        refine J_istore_n (pc := 82) dX1_road_82 (by decide) ?_
        refine J_aload_n (pc := 83) dX1_road_83 rfl ?_
        refine J_iload_n (pc := 84) dX1_road_84 rfl ?_
        refine J_put (pc := 85) (a := 20) (v := .int p1) (M' := M5.si 20 10 p1) (c := 0) rfl in_X1 tyX1_ok fnX1 10 (by decide) q187 rfl (Or.inl rfl) (fun h => sh_k1 h 0 rfl) (fun _ => rfl) (fun _ => rfl) ⟨⟨rfl, rfl⟩, rfl⟩ (fun _ hb => up2_same hb) (fun _ _ => rfl) (fun _ _ => rfl) (put_i (fun _ _ _ => rfl)) (fun h => Sh_si h) dX1_road_85 ?_
        refine J_ltM (fun M6 => ?_)
        refine J_iconst (pc := 88) 5 dX1_road_88 (by decide) ?_
        refine J_iload_n (pc := 89) dX1_road_89 rfl ?_
        refine J_imul (pc := 90) dX1_road_90 ?_
        refine J_lt (β := Int32) (v := (5 * p1)) (L := fun _ => _) (S := fun v13 => [.int v13]) (fun v13 => ?_)
        refine J_istore (pc := 91) dX1_road_91 (by decide) ?_
        refine J_sub (A := [some (.ref 20), none, none, some (.int v12), some (.int v13)]) ⟨rfl, ⟨rfl, ⟨rfl, trivial⟩⟩⟩ (t_x_road_L93 G v12 _ ?_ FU v13 M6)
        · intro M9
          refine J_aload_n (pc := 117) dX1_road_117 rfl ?_
          refine J_callV (pc := 118) (n := 0) (b := 20) (vs := []) (ci := 0) (fun l => C_x_isNew l  M9) (lw_V q525 q527 qs7 q116 q528) nmv_X1_isNew rfl (by omega) (by decide) rfl (fun h => sh_k1 h 0 rfl) rfl (Nat.le_of_ble_eq_true rfl) dX1_road_118 (fun _ M10 => ?_)
          refine J_iload_n (pc := 121) dX1_road_121 rfl ?_
          exact J_iret (pc := 122) dX1_road_122
      · refine J_iconst (pc := 76) (-1) dX1_road_76 (by decide) ?_
        exact J_iret (pc := 77) dX1_road_77

theorem C_x_road (l : Launch) (p1 : Int32) (M : PM) : Ctr l Sh yX1_road cX1_road 5 (some .int) 2 rvI [.ref 20, .int p1] M (x_road p1 M) := Ctr.of (by decide +kernel) (Nat.le_of_ble_eq_true rfl) (fun G => t_x_road G p1 M)

abbrev T_x_acts (G : JG) (M : PM) (pc : Nat) (L : List (Option Value)) (S : List Value) (o : Option (Option Nat × PM)) : Prop := JJ G cX1_acts yX1_acts 1 1 (some (.object "java/lang/String")) Sh (finR G Sh rvR) M pc L S o
def x_acts (p0 : Int32) (M : PM) : Option (Option Nat × PM) :=
    if p0 = 0 then (some ((some 4), M))
    else (if p0 = 1 then (some ((some 5), M))
    else (some ((some 6), M)))

set_option maxHeartbeats 4000000 in
theorem t_x_acts (G : JG) (p0 : Int32) (M : PM) : T_x_acts G  M 0 (ent [.int p0] 1) [] (x_acts p0 M) := by
  unfold x_acts
  refine J_iload_n (pc := 0) dX1_acts_0 rfl ?_
  refine J_if_ne (pc := 1) 10 dX1_acts_1 rfl (fun h => if_neg h) (fun h => if_pos h) (fun _ => ?_) (fun _ => ?_)
  · refine J_iload_n (pc := 10) dX1_acts_10 rfl ?_
    refine J_iconst (pc := 11) 1 dX1_acts_11 (by decide) ?_
    refine J_icmp_ne (pc := 12) 21 dX1_acts_12 rfl (fun h => if_neg h) (fun h => if_pos h) (fun _ => ?_) (fun _ => ?_)
    · refine J_ldcwS (pc := 21) (i := 5) rfl rfl dX1_acts_21 ?_
      exact J_aret (pc := 24) (v := (some 6)) dX1_acts_24
    · refine J_ldcwS (pc := 15) (i := 4) rfl rfl dX1_acts_15 ?_
      refine J_goto (pc := 18) 24 dX1_acts_18 rfl ?_
      exact J_aret (pc := 24) (v := (some 5)) dX1_acts_24
  · refine J_ldcwS (pc := 4) (i := 3) rfl rfl dX1_acts_4 ?_
    refine J_goto (pc := 7) 24 dX1_acts_7 rfl ?_
    exact J_aret (pc := 24) (v := (some 4)) dX1_acts_24

theorem C_x_acts (l : Launch) (p0 : Int32) (M : PM) : Ctr l Sh yX1_acts cX1_acts 1 (some (.object "java/lang/String")) 1 rvR [.int p0] M (x_acts p0 M) := Ctr.of (by decide +kernel) (Nat.le_of_ble_eq_true rfl) (fun G => t_x_acts G p0 M)

abbrev T_b_x_readsThing (G : JG) (d : Nat) (M : PM) (pc : Nat) (L : List (Option Value)) (S : List Value) (o : Option (Option Nat × PM)) : Prop := JJ G cX1_readsThing yX1_readsThing 2 (d + 21) (some (.object "TollOnVowels$Node")) Sh (finR G Sh rvR) M pc L S o
def b_x_readsThing (f_reads : Int32 → PM → Option (Option Nat × PM)) (f_readsThing : PM → Option (Option Nat × PM)) (M : PM) : Option (Option Nat × PM) :=
    bd (x_eats 45 M) fun v1 M1 =>
    if v1 = 0 then (bd (x_isDigit M1) fun v2 M2 =>
    if v2 = 0 then (bd (x_among 3 M2) fun v3 M3 =>
    if v3 < 0 then (bd (x_isAt 40 M3) fun v4 M4 =>
    if v4 = 0 then (some (none, M4))
    else (if (M4.i 20 19) = 4 then (some (none, M4))
    else (lt (M4.si 20 17 ((M4.i 20 17) + 1)) fun M5 =>
    lt (M5.si 20 19 ((M5.i 20 19) + 1)) fun M6 =>
    bd (f_reads 0 M6) fun r1 M7 =>
    nl r1 (some (none, M7)) fun a1 =>
    bd (x_eats 41 M7) fun v5 M8 =>
    if v5 = 0 then (some (none, M8))
    else (lt (M8.si 20 19 ((M8.i 20 19) - 1)) fun M9 =>
    some ((some a1), M9)))))
    else (lt (M3.si 20 17 ((M3.i 20 17) + 1)) fun M10 =>
    lt (M10.nw 5 0 3) fun M11 =>
    ck ((M11.i 20 17) - 1) 80 <|
    bd (sg_init M10.n (M11.i 39 (ix ((M11.i 20 17) - 1))) M11) fun _ M12 =>
    some ((some M10.n), M12)))
    else (lt (M2.nw 4 0 3) fun M13 =>
    bd (x_number 3 M13) fun v6 M14 =>
    bd (nu_init M2.n v6 M14) fun _ M15 =>
    some ((some M2.n), M15)))
    else (bd (f_readsThing M1) fun r2 M16 =>
    nl r2 (some (none, M16)) fun a2 =>
    lt (M16.nw 3 0 3) fun M17 =>
    bd (ls_init M16.n a2 M17) fun _ M18 =>
    some ((some M16.n), M18))

set_option maxHeartbeats 4000000 in
theorem t_b_x_readsThing (G : JG) (d : Nat) (f_reads : Int32 → PM → Option (Option Nat × PM)) (f_readsThing : PM → Option (Option Nat × PM)) (h_reads : ∀ (b0 : Int32) (M : PM) (l : Launch), Ctr l Sh yX1_reads cX1_reads 6 (some (.object "TollOnVowels$Node")) (d + 20) rvR [.ref 20, .int b0] M (f_reads b0 M)) (h_readsThing : ∀ (M : PM) (l : Launch), Ctr l Sh yX1_readsThing cX1_readsThing 2 (some (.object "TollOnVowels$Node")) (d + 20) rvR [.ref 20] M (f_readsThing M)) (M : PM) : T_b_x_readsThing G d M 0 (ent [.ref 20] 2) [] (b_x_readsThing f_reads f_readsThing M) := by
  unfold b_x_readsThing
  refine J_aload_n (pc := 0) dX1_readsThing_0 rfl ?_
  refine J_bipush (pc := 1) 45 dX1_readsThing_1 (by decide) ?_
  refine J_callV (pc := 3) (n := 1) (b := 20) (vs := [.int 45]) (ci := 0) (fun l => C_x_eats l 45 M) (lw_V q510 q512 qs4 q116 q513) nmv_X1_eats rfl (by omega) (by decide) rfl (fun h => sh_k1 h 0 rfl) rfl (Nat.le_of_ble_eq_true rfl) dX1_readsThing_3 (fun v1 M1 => ?_)
  refine J_if_eq (pc := 6) 32 dX1_readsThing_6 rfl (fun h => if_pos h) (fun h => if_neg h) (fun _ => ?_) (fun _ => ?_)
  · refine J_aload_n (pc := 32) dX1_readsThing_32 rfl ?_
    refine J_callV (pc := 33) (n := 0) (b := 20) (vs := []) (ci := 0) (fun l => C_x_isDigit l  M1) (lw_V q546 q548 qs11 q116 q549) nmv_X1_isDigit rfl (by omega) (by decide) rfl (fun h => sh_k1 h 0 rfl) rfl (Nat.le_of_ble_eq_true rfl) dX1_readsThing_33 (fun v2 M2 => ?_)
    refine J_if_eq (pc := 36) 53 dX1_readsThing_36 rfl (fun h => if_pos h) (fun h => if_neg h) (fun _ => ?_) (fun _ => ?_)
    · refine J_aload_n (pc := 53) dX1_readsThing_53 rfl ?_
      refine J_ldcwS (pc := 54) (i := 2) rfl rfl dX1_readsThing_54 ?_
      refine J_callV (pc := 57) (n := 1) (b := 20) (vs := [.ref 3]) (ci := 0) (fun l => C_x_among l 3 M2) (lw_V q421 q423 qs3 q116 q424) nmv_X1_among rfl (by omega) (by decide) rfl (fun h => sh_k1 h 0 rfl) rfl (Nat.le_of_ble_eq_true rfl) dX1_readsThing_57 (fun v3 M3 => ?_)
      refine J_if_lt (pc := 60) 93 dX1_readsThing_60 rfl (fun h => if_pos h) (fun h => if_neg h) (fun _ => ?_) (fun _ => ?_)
      · refine J_aload_n (pc := 93) dX1_readsThing_93 rfl ?_
        refine J_bipush (pc := 94) 40 dX1_readsThing_94 (by decide) ?_
        refine J_callV (pc := 96) (n := 1) (b := 20) (vs := [.int 40]) (ci := 0) (fun l => C_x_isAt l 40 M3) (lw_V q514 q516 qs5 q116 q517) nmv_X1_isAt rfl (by omega) (by decide) rfl (fun h => sh_k1 h 0 rfl) rfl (Nat.le_of_ble_eq_true rfl) dX1_readsThing_96 (fun v4 M4 => ?_)
        refine J_if_eq (pc := 99) 110 dX1_readsThing_99 rfl (fun h => if_pos h) (fun h => if_neg h) (fun _ => ?_) (fun _ => ?_)
        · refine J_null (pc := 110) dX1_readsThing_110 ?_
          exact J_aret (pc := 111) (v := none) dX1_readsThing_111
        · refine J_aload_n (pc := 102) dX1_readsThing_102 rfl ?_
          refine J_get (pc := 103) (c := 0) (.int (M4.i 20 19)) rfl in_X1 19 (by decide) q196 rfl (fun h => sh_k1 h 0 rfl) (fun _ _ => rfl) dX1_readsThing_103 ?_
          refine J_iconst (pc := 106) 4 dX1_readsThing_106 (by decide) ?_
          refine J_icmp_ne (pc := 107) 112 dX1_readsThing_107 rfl (fun h => if_neg h) (fun h => if_pos h) (fun _ => ?_) (fun _ => ?_)
          · refine J_aload_n (pc := 112) dX1_readsThing_112 rfl ?_
            refine J_dup (pc := 113) dX1_readsThing_113 rfl ?_
            refine J_get (pc := 114) (c := 0) (.int (M4.i 20 17)) rfl in_X1 17 (by decide) q194 rfl (fun h => sh_k1 h 0 rfl) (fun _ _ => rfl) dX1_readsThing_114 ?_
            refine J_iconst (pc := 117) 1 dX1_readsThing_117 (by decide) ?_
            refine J_iadd (pc := 118) dX1_readsThing_118 ?_
            refine J_put (pc := 119) (a := 20) (v := .int ((M4.i 20 17) + 1)) (M' := M4.si 20 17 ((M4.i 20 17) + 1)) (c := 0) rfl in_X1 tyX1_ok fnX1 17 (by decide) q194 rfl (Or.inl rfl) (fun h => sh_k1 h 0 rfl) (fun _ => rfl) (fun _ => rfl) ⟨⟨rfl, rfl⟩, rfl⟩ (fun _ hb => up2_same hb) (fun _ _ => rfl) (fun _ _ => rfl) (put_i (fun _ _ _ => rfl)) (fun h => Sh_si h) dX1_readsThing_119 ?_
            refine J_ltM (fun M5 => ?_)
            refine J_aload_n (pc := 122) dX1_readsThing_122 rfl ?_
            refine J_dup (pc := 123) dX1_readsThing_123 rfl ?_
            refine J_get (pc := 124) (c := 0) (.int (M5.i 20 19)) rfl in_X1 19 (by decide) q196 rfl (fun h => sh_k1 h 0 rfl) (fun _ _ => rfl) dX1_readsThing_124 ?_
            refine J_iconst (pc := 127) 1 dX1_readsThing_127 (by decide) ?_
            refine J_iadd (pc := 128) dX1_readsThing_128 ?_
            refine J_put (pc := 129) (a := 20) (v := .int ((M5.i 20 19) + 1)) (M' := M5.si 20 19 ((M5.i 20 19) + 1)) (c := 0) rfl in_X1 tyX1_ok fnX1 19 (by decide) q196 rfl (Or.inl rfl) (fun h => sh_k1 h 0 rfl) (fun _ => rfl) (fun _ => rfl) ⟨⟨rfl, rfl⟩, rfl⟩ (fun _ hb => up2_same hb) (fun _ _ => rfl) (fun _ _ => rfl) (put_i (fun _ _ _ => rfl)) (fun h => Sh_si h) dX1_readsThing_129 ?_
            refine J_ltM (fun M6 => ?_)
            refine J_aload_n (pc := 132) dX1_readsThing_132 rfl ?_
            refine J_iconst (pc := 133) 0 dX1_readsThing_133 (by decide) ?_
            refine J_callV (pc := 134) (n := 1) (b := 20) (vs := [.int 0]) (ci := 0) (fun l => h_reads 0 M6 l) (lw_V q574 q576 qs14 q116 q577) nmv_X1_reads rfl (by omega) (by decide) rfl (fun h => sh_k1 h 0 rfl) rfl (Nat.le_of_ble_eq_true rfl) dX1_readsThing_134 (fun r1 M7 => ?_)
            refine J_astoreO_n (pc := 137) dX1_readsThing_137 (by decide) ?_
            refine J_aloadO_n (pc := 138) dX1_readsThing_138 rfl ?_
            refine J_ifnullE (pc := 139) (r := r1) 151 dX1_readsThing_139 rfl (fun ea1 => ?_) (fun a1 ea1 => ?_)
            · subst ea1
              refine J_null (pc := 151) dX1_readsThing_151 ?_
              exact J_aret (pc := 152) (v := none) dX1_readsThing_152
            · subst ea1
              refine J_aload_n (pc := 142) dX1_readsThing_142 rfl ?_
              refine J_bipush (pc := 143) 41 dX1_readsThing_143 (by decide) ?_
              refine J_callV (pc := 145) (n := 1) (b := 20) (vs := [.int 41]) (ci := 0) (fun l => C_x_eats l 41 M7) (lw_V q510 q512 qs4 q116 q513) nmv_X1_eats rfl (by omega) (by decide) rfl (fun h => sh_k1 h 0 rfl) rfl (Nat.le_of_ble_eq_true rfl) dX1_readsThing_145 (fun v5 M8 => ?_)
              refine J_if_ne (pc := 148) 153 dX1_readsThing_148 rfl (fun h => if_neg h) (fun h => if_pos h) (fun _ => ?_) (fun _ => ?_)
              · refine J_aload_n (pc := 153) dX1_readsThing_153 rfl ?_
                refine J_dup (pc := 154) dX1_readsThing_154 rfl ?_
                refine J_get (pc := 155) (c := 0) (.int (M8.i 20 19)) rfl in_X1 19 (by decide) q196 rfl (fun h => sh_k1 h 0 rfl) (fun _ _ => rfl) dX1_readsThing_155 ?_
                refine J_iconst (pc := 158) 1 dX1_readsThing_158 (by decide) ?_
                refine J_isub (pc := 159) dX1_readsThing_159 ?_
                refine J_put (pc := 160) (a := 20) (v := .int ((M8.i 20 19) - 1)) (M' := M8.si 20 19 ((M8.i 20 19) - 1)) (c := 0) rfl in_X1 tyX1_ok fnX1 19 (by decide) q196 rfl (Or.inl rfl) (fun h => sh_k1 h 0 rfl) (fun _ => rfl) (fun _ => rfl) ⟨⟨rfl, rfl⟩, rfl⟩ (fun _ hb => up2_same hb) (fun _ _ => rfl) (fun _ _ => rfl) (put_i (fun _ _ _ => rfl)) (fun h => Sh_si h) dX1_readsThing_160 ?_
                refine J_ltM (fun M9 => ?_)
                refine J_aload_n (pc := 163) dX1_readsThing_163 rfl ?_
                exact J_aret (pc := 164) (v := (some a1)) dX1_readsThing_164
              · refine J_null (pc := 151) dX1_readsThing_151 ?_
                exact J_aret (pc := 152) (v := none) dX1_readsThing_152
          · refine J_null (pc := 110) dX1_readsThing_110 ?_
            exact J_aret (pc := 111) (v := none) dX1_readsThing_111
      · refine J_aload_n (pc := 63) dX1_readsThing_63 rfl ?_
        refine J_dup (pc := 64) dX1_readsThing_64 rfl ?_
        refine J_get (pc := 65) (c := 0) (.int (M3.i 20 17)) rfl in_X1 17 (by decide) q194 rfl (fun h => sh_k1 h 0 rfl) (fun _ _ => rfl) dX1_readsThing_65 ?_
        refine J_iconst (pc := 68) 1 dX1_readsThing_68 (by decide) ?_
        refine J_iadd (pc := 69) dX1_readsThing_69 ?_
        refine J_put (pc := 70) (a := 20) (v := .int ((M3.i 20 17) + 1)) (M' := M3.si 20 17 ((M3.i 20 17) + 1)) (c := 0) rfl in_X1 tyX1_ok fnX1 17 (by decide) q194 rfl (Or.inl rfl) (fun h => sh_k1 h 0 rfl) (fun _ => rfl) (fun _ => rfl) ⟨⟨rfl, rfl⟩, rfl⟩ (fun _ hb => up2_same hb) (fun _ _ => rfl) (fun _ _ => rfl) (put_i (fun _ _ _ => rfl)) (fun h => Sh_si h) dX1_readsThing_70 ?_
        refine J_ltM (fun M10 => ?_)
        refine J_new (pc := 73) (c := 5) rfl in_X7 tyX7_ok q616 q617 q129 df_X7 (fun h => Sh_nw h) dX1_readsThing_73 ?_
        refine J_ltM (fun M11 => ?_)
        refine J_dup (pc := 76) dX1_readsThing_76 rfl ?_
        refine J_aload_n (pc := 77) dX1_readsThing_77 rfl ?_
        refine J_aload_n (pc := 78) dX1_readsThing_78 rfl ?_
        refine J_get (pc := 79) (c := 0) (.ref 39) rfl in_X1 15 (by decide) q192 rfl (fun h => sh_k1 h 0 rfl) (fun h _ => fv_ref (Or.inr ⟨_, rfl⟩) (sh_r h 18 rfl)) dX1_readsThing_79 ?_
        refine J_aload_n (pc := 82) dX1_readsThing_82 rfl ?_
        refine J_get (pc := 83) (c := 0) (.int (M11.i 20 17)) rfl in_X1 17 (by decide) q194 rfl (fun h => sh_k1 h 0 rfl) (fun _ _ => rfl) dX1_readsThing_83 ?_
        refine J_iconst (pc := 86) 1 dX1_readsThing_86 (by decide) ?_
        refine J_isub (pc := 87) dX1_readsThing_87 ?_
        refine J_ck (fun h1 => ?_)
        refine J_iald (pc := 88) (a := 39) (fun h => sh_a h 19 rfl h1) dX1_readsThing_88 ?_
        refine J_callI (pc := 89) (n := 2) (b := M10.n) (vs := [.ref 20, .int (M11.i 39 (ix ((M11.i 20 17) - 1)))]) (fun l => C_sg_init l M10.n (M11.i 39 (ix ((M11.i 20 17) - 1))) M11) (lw_meth q620) q129 q618 q619 rfl nmh_X7_init rfl (by omega) (by decide) rfl (Nat.le_of_ble_eq_true rfl) dX1_readsThing_89 (fun _u M12 => ?_)
        exact J_aret (pc := 92) (v := (some M10.n)) dX1_readsThing_92
    · refine J_new (pc := 39) (c := 4) rfl in_X6 tyX6_ok q601 q602 q128 df_X6 (fun h => Sh_nw h) dX1_readsThing_39 ?_
      refine J_ltM (fun M13 => ?_)
      refine J_dup (pc := 42) dX1_readsThing_42 rfl ?_
      refine J_aload_n (pc := 43) dX1_readsThing_43 rfl ?_
      refine J_aload_n (pc := 44) dX1_readsThing_44 rfl ?_
      refine J_iconst (pc := 45) 3 dX1_readsThing_45 (by decide) ?_
      refine J_callV (pc := 46) (n := 1) (b := 20) (vs := [.int 3]) (ci := 0) (fun l => C_x_number l 3 M13) (lw_V q542 q544 qs10 q116 q545) nmv_X1_number rfl (by omega) (by decide) rfl (fun h => sh_k1 h 0 rfl) rfl (Nat.le_of_ble_eq_true rfl) dX1_readsThing_46 (fun v6 M14 => ?_)
      refine J_callI (pc := 49) (n := 2) (b := M2.n) (vs := [.ref 20, .int v6]) (fun l => C_nu_init l M2.n v6 M14) (lw_meth q605) q128 q603 q604 rfl nmh_X6_init rfl (by omega) (by decide) rfl (Nat.le_of_ble_eq_true rfl) dX1_readsThing_49 (fun _u M15 => ?_)
      exact J_aret (pc := 52) (v := (some M2.n)) dX1_readsThing_52
  · refine J_aload_n (pc := 9) dX1_readsThing_9 rfl ?_
    refine J_callV (pc := 10) (n := 0) (b := 20) (vs := []) (ci := 0) (fun l => h_readsThing  M1 l) (lw_V q578 q580 qs15 q116 q581) nmv_X1_readsThing rfl (by omega) (by decide) rfl (fun h => sh_k1 h 0 rfl) rfl (Nat.le_of_ble_eq_true rfl) dX1_readsThing_10 (fun r2 M16 => ?_)
    refine J_astoreO_n (pc := 13) dX1_readsThing_13 (by decide) ?_
    refine J_aloadO_n (pc := 14) dX1_readsThing_14 rfl ?_
    refine J_ifnonnullE (pc := 15) (r := r2) 22 dX1_readsThing_15 rfl (fun ea2 => ?_) (fun a2 ea2 => ?_)
    · subst ea2
      refine J_null (pc := 18) dX1_readsThing_18 ?_
      refine J_goto (pc := 19) 31 dX1_readsThing_19 rfl ?_
      exact J_aret (pc := 31) (v := none) dX1_readsThing_31
    · subst ea2
      refine J_new (pc := 22) (c := 3) rfl in_X5 tyX5_ok q582 q583 q127 df_X5 (fun h => Sh_nw h) dX1_readsThing_22 ?_
      refine J_ltM (fun M17 => ?_)
      refine J_dup (pc := 25) dX1_readsThing_25 rfl ?_
      refine J_aload_n (pc := 26) dX1_readsThing_26 rfl ?_
      refine J_aload_n (pc := 27) dX1_readsThing_27 rfl ?_
      refine J_callI (pc := 28) (n := 2) (b := M16.n) (vs := [.ref 20, .ref a2]) (fun l => C_ls_init l M16.n a2 M17) (lw_meth q586) q127 q584 q585 rfl nmh_X5_init rfl (by omega) (by decide) rfl (Nat.le_of_ble_eq_true rfl) dX1_readsThing_28 (fun _u M18 => ?_)
      exact J_aret (pc := 31) (v := (some M16.n)) dX1_readsThing_31

abbrev T_b_x_reads (G : JG) (d : Nat) (M : PM) (pc : Nat) (L : List (Option Value)) (S : List Value) (o : Option (Option Nat × PM)) : Prop := JJ G cX1_reads yX1_reads 6 (d + 21) (some (.object "TollOnVowels$Node")) Sh (finR G Sh rvR) M pc L S o
def b_x_reads_L20 (c1 : Int32) (k106 : Option Nat → PM → Option (Option Nat × PM)) (f_reads : Int32 → PM → Option (Option Nat × PM)) (f_readsThing : PM → Option (Option Nat × PM)) : Nat → Option Nat → Int32 → PM → Option (Option Nat × PM)
  | 0, _, _, _ => none
  | n + 1, r2, v1, M2 =>
    jn (fun (M3 : PM) =>
    k106 r2 M3) fun j1 =>
    nl r2 (j1 M2) fun a1 =>
    if v1 = 0 then (j1 M2)
    else (bd (x_acts c1 M2) fun r3 M4 =>
    rf r3 fun a2 =>
    bd (x_among a2 M4) fun v2 M5 =>
    if v2 < 0 then (j1 M5)
    else (ck (M5.i 20 17) 80 <|
    lt ((Int32.toUInt32 (M5.i 39 (ix (M5.i 20 17))) % 65536).toInt32) fun v3 =>
    lt (M5.si 20 17 ((M5.i 20 17) + 1)) fun M6 =>
    bd (f_reads (c1 + 1) M6) fun r4 M7 =>
    jn (fun (r5 : Option Nat) (M8 : PM) =>
    lt (if c1 ≤ 0 then 0 else 1 : Int32) fun v4 =>
    b_x_reads_L20 c1 k106 f_reads f_readsThing n r5 v4 M8) fun j2 =>
    nl r4 (j2 none M7) fun a3 =>
    lt (M7.nw 6 0 5) fun M9 =>
    bd (ac_init M7.n v3 a1 a3 M9) fun _ M10 =>
    j2 (some M7.n) M10))

set_option maxHeartbeats 4000000 in
theorem t_b_x_reads_L20 (G : JG) (d : Nat) (c1 : Int32) (k106 : Option Nat → PM → Option (Option Nat × PM)) (f_reads : Int32 → PM → Option (Option Nat × PM)) (f_readsThing : PM → Option (Option Nat × PM)) (hk106 : ∀ z2 Me, T_b_x_reads G d Me 106 [none, none, some (va_rf z2), none, none, none] [] (k106 z2 Me)) (h_reads : ∀ (b0 : Int32) (M : PM) (l : Launch), Ctr l Sh yX1_reads cX1_reads 6 (some (.object "TollOnVowels$Node")) (d + 20) rvR [.ref 20, .int b0] M (f_reads b0 M)) (h_readsThing : ∀ (M : PM) (l : Launch), Ctr l Sh yX1_readsThing cX1_readsThing 2 (some (.object "TollOnVowels$Node")) (d + 20) rvR [.ref 20] M (f_readsThing M)) : ∀ (n : Nat) (r2 : Option Nat) (v1 : Int32) (M2 : PM), T_b_x_reads G d M2 20 [some (.ref 20), some (.int c1), some (va_rf r2), some (.int v1), none, none] [] (b_x_reads_L20 c1 k106 f_reads f_readsThing n r2 v1 M2) := by
  intro n
  induction n with
  | zero =>
    intro r2 v1 M2
    exact J_none
  | succ n ih =>
    intro r2 v1 M2
    rw [b_x_reads_L20]
    refine J_aloadO_n (pc := 20) dX1_reads_20 rfl ?_
    refine J_jn (P := fun J => ∀ (M3 : PM), T_b_x_reads G d M3 106 [none, none, some (va_rf r2), none, none, none] [] (J M3)) (fun M3 => ?_) (fun j1 hj1 => ?_)
    · exact J_sub (A := [none, none, some (va_rf r2), none, none, none]) ⟨(by first | rfl | simp only [kill2_rf]), trivial⟩ (hk106 r2 M3)
    refine J_ifnullE (pc := 21) (r := r2) 106 dX1_reads_21 rfl (fun ea1 => ?_) (fun a1 ea1 => ?_)
    · subst ea1
      exact J_sub (A := [none, none, some (.null), none, none, none]) ⟨rfl, trivial⟩ (hj1 M2)
    · subst ea1
      refine J_iload_n (pc := 24) dX1_reads_24 rfl ?_
      refine J_if_eq (pc := 25) 106 dX1_reads_25 rfl (fun h => if_pos h) (fun h => if_neg h) (fun _ => ?_) (fun _ => ?_)
      · exact J_sub (A := [none, none, some (.ref a1), none, none, none]) ⟨rfl, trivial⟩ (hj1 M2)
      · refine J_aload_n (pc := 28) dX1_reads_28 rfl ?_
        refine J_iload_n (pc := 29) dX1_reads_29 rfl ?_
        refine J_callS (pc := 30) (n := 1) (vs := [.int c1]) (fun l => C_x_acts l c1 M2) (lw_S q630 q631 q116 q632) nmh_X1_acts rfl (by omega) (by decide) rfl (Nat.le_of_ble_eq_true rfl) dX1_reads_30 (fun r3 M4 => ?_)
        refine J_rfe (fun a2 ea2 => ?_)
        subst ea2
        refine J_callV (pc := 33) (n := 1) (b := 20) (vs := [.ref a2]) (ci := 0) (fun l => C_x_among l a2 M4) (lw_V q421 q423 qs3 q116 q424) nmv_X1_among rfl (by omega) (by decide) rfl (fun h => sh_k1 h 0 rfl) rfl (Nat.le_of_ble_eq_true rfl) dX1_reads_33 (fun v2 M5 => ?_)
        refine J_if_lt (pc := 36) 106 dX1_reads_36 rfl (fun h => if_pos h) (fun h => if_neg h) (fun _ => ?_) (fun _ => ?_)
        · exact J_sub (A := [none, none, some (.ref a1), none, none, none]) ⟨rfl, trivial⟩ (hj1 M5)
        · refine J_aload_n (pc := 39) dX1_reads_39 rfl ?_
          refine J_get (pc := 40) (c := 0) (.ref 39) rfl in_X1 15 (by decide) q192 rfl (fun h => sh_k1 h 0 rfl) (fun h _ => fv_ref (Or.inr ⟨_, rfl⟩) (sh_r h 18 rfl)) dX1_reads_40 ?_
          refine J_aload_n (pc := 43) dX1_reads_43 rfl ?_
          refine J_get (pc := 44) (c := 0) (.int (M5.i 20 17)) rfl in_X1 17 (by decide) q194 rfl (fun h => sh_k1 h 0 rfl) (fun _ _ => rfl) dX1_reads_44 ?_
          refine J_ck (fun h1 => ?_)
          refine J_iald (pc := 47) (a := 39) (fun h => sh_a h 19 rfl h1) dX1_reads_47 ?_
          refine J_i2c (pc := 48) dX1_reads_48 ?_
          refine J_lt (β := Int32) (v := ((Int32.toUInt32 (M5.i 39 (ix (M5.i 20 17))) % 65536).toInt32)) (L := fun _ => _) (S := fun v3 => [.int v3]) (fun v3 => ?_)
          refine J_istore (pc := 49) dX1_reads_49 (by decide) ?_
          refine J_aload_n (pc := 51) dX1_reads_51 rfl ?_
          refine J_dup (pc := 52) dX1_reads_52 rfl ?_
          refine J_get (pc := 53) (c := 0) (.int (M5.i 20 17)) rfl in_X1 17 (by decide) q194 rfl (fun h => sh_k1 h 0 rfl) (fun _ _ => rfl) dX1_reads_53 ?_
          refine J_iconst (pc := 56) 1 dX1_reads_56 (by decide) ?_
          refine J_iadd (pc := 57) dX1_reads_57 ?_
          refine J_put (pc := 58) (a := 20) (v := .int ((M5.i 20 17) + 1)) (M' := M5.si 20 17 ((M5.i 20 17) + 1)) (c := 0) rfl in_X1 tyX1_ok fnX1 17 (by decide) q194 rfl (Or.inl rfl) (fun h => sh_k1 h 0 rfl) (fun _ => rfl) (fun _ => rfl) ⟨⟨rfl, rfl⟩, rfl⟩ (fun _ hb => up2_same hb) (fun _ _ => rfl) (fun _ _ => rfl) (put_i (fun _ _ _ => rfl)) (fun h => Sh_si h) dX1_reads_58 ?_
          refine J_ltM (fun M6 => ?_)
          refine J_aload_n (pc := 61) dX1_reads_61 rfl ?_
          refine J_iload_n (pc := 62) dX1_reads_62 rfl ?_
          refine J_iconst (pc := 63) 1 dX1_reads_63 (by decide) ?_
          refine J_iadd (pc := 64) dX1_reads_64 ?_
          refine J_callV (pc := 65) (n := 1) (b := 20) (vs := [.int (c1 + 1)]) (ci := 0) (fun l => h_reads (c1 + 1) M6 l) (lw_V q574 q576 qs14 q116 q577) nmv_X1_reads rfl (by omega) (by decide) rfl (fun h => sh_k1 h 0 rfl) rfl (Nat.le_of_ble_eq_true rfl) dX1_reads_65 (fun r4 M7 => ?_)
          refine J_astoreO (pc := 68) dX1_reads_68 (by decide) ?_
          refine J_aloadO (pc := 70) dX1_reads_70 rfl ?_
          refine J_jn (P := fun J => ∀ (r5 : Option Nat) (M8 : PM), T_b_x_reads G d M8 92 [some (.ref 20), some (.int c1), none, none, none, none] [va_rf r5] (J r5 M8)) (fun r5 M8 => ?_) (fun j2 hj2 => ?_)
          · refine J_astoreO_n (pc := 92) dX1_reads_92 (by decide) ?_
            refine J_iload_n (pc := 93) dX1_reads_93 rfl ?_
            refine J_ltj (β := Int32) (P := fun J => ∀ v4 : Int32, T_b_x_reads G d M8 102 [some (.ref 20), some (.int c1), some (va_rf r5), none, none, none] [.int v4] (J v4)) (fun v4 => ?_) (fun j3 hj3 => ?_)
            · refine J_istore_n (pc := 102) dX1_reads_102 (by decide) ?_
              refine J_goto (pc := 103) 20 dX1_reads_103 rfl ?_
              exact J_sub (A := [some (.ref 20), some (.int c1), some (va_rf r5), some (.int v4), none, none]) ⟨rfl, ⟨rfl, ⟨(by first | rfl | simp only [kill2_rf]), ⟨rfl, trivial⟩⟩⟩⟩ (ih r5 v4 M8)
            refine J_if_le (pc := 94) 101 dX1_reads_94 rfl (fun h => congrArg j3 (if_pos h)) (fun h => congrArg j3 (if_neg h)) (fun _ => ?_) (fun _ => ?_)
            · refine J_iconst (pc := 101) 0 dX1_reads_101 (by decide) ?_
              exact J_sub (A := [some (.ref 20), some (.int c1), some (va_rf r5), none, none, none]) ⟨rfl, ⟨rfl, ⟨(by first | rfl | simp only [kill2_rf]), trivial⟩⟩⟩ (hj3 0)
            · refine J_iconst (pc := 97) 1 dX1_reads_97 (by decide) ?_
              refine J_goto (pc := 98) 102 dX1_reads_98 rfl ?_
              exact J_sub (A := [some (.ref 20), some (.int c1), some (va_rf r5), none, none, none]) ⟨rfl, ⟨rfl, ⟨(by first | rfl | simp only [kill2_rf]), trivial⟩⟩⟩ (hj3 1)
          refine J_ifnonnullE (pc := 72) (r := r4) 79 dX1_reads_72 rfl (fun ea3 => ?_) (fun a3 ea3 => ?_)
          · subst ea3
            refine J_null (pc := 75) dX1_reads_75 ?_
            refine J_goto (pc := 76) 92 dX1_reads_76 rfl ?_
            exact J_sub (A := [some (.ref 20), some (.int c1), none, none, none, none]) ⟨rfl, ⟨rfl, trivial⟩⟩ (hj2 none M7)
          · subst ea3
            refine J_new (pc := 79) (c := 6) rfl in_X8 tyX8_ok q636 q637 q130 df_X8 (fun h => Sh_nw h) dX1_reads_79 ?_
            refine J_ltM (fun M9 => ?_)
            refine J_dup (pc := 82) dX1_reads_82 rfl ?_
            refine J_aload_n (pc := 83) dX1_reads_83 rfl ?_
            refine J_iload (pc := 84) dX1_reads_84 rfl ?_
            refine J_aload_n (pc := 86) dX1_reads_86 rfl ?_
            refine J_aload (pc := 87) dX1_reads_87 rfl ?_
            refine J_callI (pc := 89) (n := 4) (b := M7.n) (vs := [.ref 20, .int v3, .ref a1, .ref a3]) (fun l => C_ac_init l M7.n v3 a1 a3 M9) (lw_meth q640) q130 q638 q639 rfl nmh_X8_init rfl (by omega) (by decide) rfl (Nat.le_of_ble_eq_true rfl) dX1_reads_89 (fun _u M10 => ?_)
            exact J_sub (A := [some (.ref 20), some (.int c1), none, none, none, none]) ⟨rfl, ⟨rfl, trivial⟩⟩ (hj2 (some M7.n) M10)

def b_x_reads (f_reads : Int32 → PM → Option (Option Nat × PM)) (f_readsThing : PM → Option (Option Nat × PM)) (p1 : Int32) (M : PM) : Option (Option Nat × PM) :=
    if p1 = 3 then (bd (f_readsThing M) fun r7 M12 =>
    some (r7, M12))
    else (bd (f_reads (p1 + 1) M) fun r1 M1 =>
    b_x_reads_L20 p1 (fun (r6 : Option Nat) (M11 : PM) =>
    some (r6, M11)) f_reads f_readsThing FU r1 1 M1)

set_option maxHeartbeats 4000000 in
theorem t_b_x_reads (G : JG) (d : Nat) (f_reads : Int32 → PM → Option (Option Nat × PM)) (f_readsThing : PM → Option (Option Nat × PM)) (h_reads : ∀ (b0 : Int32) (M : PM) (l : Launch), Ctr l Sh yX1_reads cX1_reads 6 (some (.object "TollOnVowels$Node")) (d + 20) rvR [.ref 20, .int b0] M (f_reads b0 M)) (h_readsThing : ∀ (M : PM) (l : Launch), Ctr l Sh yX1_readsThing cX1_readsThing 2 (some (.object "TollOnVowels$Node")) (d + 20) rvR [.ref 20] M (f_readsThing M)) (p1 : Int32) (M : PM) : T_b_x_reads G d M 0 (ent [.ref 20, .int p1] 6) [] (b_x_reads f_reads f_readsThing p1 M) := by
  unfold b_x_reads
  refine J_iload_n (pc := 0) dX1_reads_0 rfl ?_
  refine J_iconst (pc := 1) 3 dX1_reads_1 (by decide) ?_
  refine J_icmp_ne (pc := 2) 10 dX1_reads_2 rfl (fun h => if_neg h) (fun h => if_pos h) (fun _ => ?_) (fun _ => ?_)
  · refine J_aload_n (pc := 10) dX1_reads_10 rfl ?_
    refine J_iload_n (pc := 11) dX1_reads_11 rfl ?_
    refine J_iconst (pc := 12) 1 dX1_reads_12 (by decide) ?_
    refine J_iadd (pc := 13) dX1_reads_13 ?_
    refine J_callV (pc := 14) (n := 1) (b := 20) (vs := [.int (p1 + 1)]) (ci := 0) (fun l => h_reads (p1 + 1) M l) (lw_V q574 q576 qs14 q116 q577) nmv_X1_reads rfl (by omega) (by decide) rfl (fun h => sh_k1 h 0 rfl) rfl (Nat.le_of_ble_eq_true rfl) dX1_reads_14 (fun r1 M1 => ?_)
    refine J_astoreO_n (pc := 17) dX1_reads_17 (by decide) ?_
    refine J_iconst (pc := 18) 1 dX1_reads_18 (by decide) ?_
    refine J_istore_n (pc := 19) dX1_reads_19 (by decide) ?_
    refine J_sub (A := [some (.ref 20), some (.int p1), some (va_rf r1), some (.int 1), none, none]) ⟨rfl, ⟨rfl, ⟨(by first | rfl | simp only [kill2_rf]), ⟨rfl, trivial⟩⟩⟩⟩ (t_b_x_reads_L20 G d p1 _ f_reads f_readsThing ?_ h_reads h_readsThing FU r1 1 M1)
    · intro r6 M11
      refine J_aloadO_n (pc := 106) dX1_reads_106 rfl ?_
      exact J_aret (pc := 107) (v := r6) dX1_reads_107
  · refine J_aload_n (pc := 5) dX1_reads_5 rfl ?_
    refine J_callV (pc := 6) (n := 0) (b := 20) (vs := []) (ci := 0) (fun l => h_readsThing  M l) (lw_V q578 q580 qs15 q116 q581) nmv_X1_readsThing rfl (by omega) (by decide) rfl (fun h => sh_k1 h 0 rfl) rfl (Nat.le_of_ble_eq_true rfl) dX1_reads_6 (fun r7 M12 => ?_)
    exact J_aret (pc := 9) (v := r7) dX1_reads_9

def G_x_reads : Nat → (Int32 → PM → Option (Option Nat × PM)) × (PM → Option (Option Nat × PM))
  | 0 => (fun _ _ => none, fun _ => none)
  | n + 1 => (b_x_reads ((G_x_reads n).1) ((G_x_reads n).2), b_x_readsThing ((G_x_reads n).1) ((G_x_reads n).2))
theorem CG_x_reads : ∀ d : Nat, (∀ (b0 : Int32) (M : PM) (l : Launch), Ctr l Sh yX1_reads cX1_reads 6 (some (.object "TollOnVowels$Node")) (d + 20) rvR [.ref 20, .int b0] M ((G_x_reads d).1 b0 M)) ∧ (∀ (M : PM) (l : Launch), Ctr l Sh yX1_readsThing cX1_readsThing 2 (some (.object "TollOnVowels$Node")) (d + 20) rvR [.ref 20] M ((G_x_reads d).2 M)) := by
  intro d
  induction d with
  | zero => exact ⟨fun _ _ _ r M1 h => (by cases h), fun  _ _ r M1 h => (by cases h)⟩
  | succ d ih =>
    obtain ⟨h0, h1⟩ := ih
    exact ⟨fun b0 M l => Ctr.of (by decide +kernel) (Nat.le_of_ble_eq_true rfl) (fun G => t_b_x_reads G d _ _ h0 h1 b0 M), fun  M l => Ctr.of (by decide +kernel) (Nat.le_of_ble_eq_true rfl) (fun G => t_b_x_readsThing G d _ _ h0 h1  M)⟩
def x_reads (b0 : Int32) (M : PM) : Option (Option Nat × PM) := (G_x_reads 120).1 b0 M
theorem C_x_reads (l : Launch) (b0 : Int32) (M : PM) : Ctr l Sh yX1_reads cX1_reads 6 (some (.object "TollOnVowels$Node")) 140 rvR [.ref 20, .int b0] M (x_reads b0 M) := (CG_x_reads 120).1 b0 M l
def x_readsThing (M : PM) : Option (Option Nat × PM) := (G_x_reads 120).2 M
theorem C_x_readsThing (l : Launch) (M : PM) : Ctr l Sh yX1_readsThing cX1_readsThing 2 (some (.object "TollOnVowels$Node")) 140 rvR [.ref 20] M (x_readsThing M) := (CG_x_reads 120).2 M l
abbrev T_x_readsRule (G : JG) (M : PM) (pc : Nat) (L : List (Option Value)) (S : List Value) (o : Option (Int32 × PM)) : Prop := JJ G cX1_readsRule yX1_readsRule 2 141 (some .int) Sh (finR G Sh rvI) M pc L S o
def x_readsRule (M : PM) : Option (Int32 × PM) :=
    bd (x_begins 40 M) fun v1 M1 =>
    jn (fun (r1 : Option Nat) (M2 : PM) =>
    lt (M2.sr 20 39 r1) fun M3 =>
    if v1 = 0 then (some (0, M3))
    else (lt (M3.r 20 39) fun r2 =>
    jn (fun (v2 : Int32) (M4 : PM) =>
    bd (x_faultOf v1 v2 M4) fun v3 M5 =>
    some (v3, M5)) fun j2 =>
    nl r2 (j2 0 M3) fun a1 =>
    j2 1 M3)) fun j1 =>
    if v1 = 0 then (j1 none M1)
    else (bd (x_reads 0 M1) fun r3 M6 =>
    j1 r3 M6)

set_option maxHeartbeats 4000000 in
theorem t_x_readsRule (G : JG) (M : PM) : T_x_readsRule G  M 0 (ent [.ref 20] 2) [] (x_readsRule M) := by
  unfold x_readsRule
  refine J_aload_n (pc := 0) dX1_readsRule_0 rfl ?_
  refine J_bipush (pc := 1) 40 dX1_readsRule_1 (by decide) ?_
  refine J_callV (pc := 3) (n := 1) (b := 20) (vs := [.int 40]) (ci := 0) (fun l => C_x_begins l 40 M) (lw_V q405 q407 qs0 q116 q408) nmv_X1_begins rfl (by omega) (by decide) rfl (fun h => sh_k1 h 0 rfl) rfl (Nat.le_of_ble_eq_true rfl) dX1_readsRule_3 (fun v1 M1 => ?_)
  refine J_istore_n (pc := 6) dX1_readsRule_6 (by decide) ?_
  refine J_aload_n (pc := 7) dX1_readsRule_7 rfl ?_
  refine J_iload_n (pc := 8) dX1_readsRule_8 rfl ?_
  refine J_jn (P := fun J => ∀ (r1 : Option Nat) (M2 : PM), T_x_readsRule G  M2 21 [some (.ref 20), some (.int v1)] [va_rf r1, .ref 20] (J r1 M2)) (fun r1 M2 => ?_) (fun j1 hj1 => ?_)
  · refine J_put (pc := 21) (a := 20) (v := va_rf r1) (M' := M2.sr 20 39 r1) (c := 0) rfl in_X1 tyX1_ok fnX1 39 (by decide) q223 rfl (Or.inl rfl) (fun h => sh_k1 h 0 rfl) (fun ad => (nrw_r _ (Or.inl ⟨_, rfl⟩) r1 ad).1) (fun ad => (nrw_r _ (Or.inl ⟨_, rfl⟩) r1 ad).2) ⟨⟨rfl, rfl⟩, rfl⟩ (fun _ _ => rfl) (fun _ _ => rfl) (fun _ hb => up2_same hb) (put_r (fun _ _ _ => rfl)) (fun h => Sh_sr h (by decide)) dX1_readsRule_21 ?_
    refine J_ltM (fun M3 => ?_)
    refine J_iload_n (pc := 24) dX1_readsRule_24 rfl ?_
    refine J_if_ne (pc := 25) 32 dX1_readsRule_25 rfl (fun h => if_neg h) (fun h => if_pos h) (fun _ => ?_) (fun _ => ?_)
    · refine J_aload_n (pc := 32) dX1_readsRule_32 rfl ?_
      refine J_iload_n (pc := 33) dX1_readsRule_33 rfl ?_
      refine J_aload_n (pc := 34) dX1_readsRule_34 rfl ?_
      refine J_getO (pc := 35) (c := 0) rfl in_X1 39 (by decide) q223 rfl (fun h => sh_k1 h 0 rfl) (fun _ _ => fv_rf (Or.inl ⟨_, rfl⟩)) dX1_readsRule_35 (fun r2 => ?_)
      refine J_jn (P := fun J => ∀ (v2 : Int32) (M4 : PM), T_x_readsRule G  M4 46 [none, none] [.int v2, .int v1, .ref 20] (J v2 M4)) (fun v2 M4 => ?_) (fun j2 hj2 => ?_)
      · refine J_callV (pc := 46) (n := 2) (b := 20) (vs := [.int v1, .int v2]) (ci := 0) (fun l => C_x_faultOf l v1 v2 M4) (lw_V q518 q520 qs6 q116 q521) nmv_X1_faultOf rfl (by omega) (by decide) rfl (fun h => sh_k1 h 0 rfl) rfl (Nat.le_of_ble_eq_true rfl) dX1_readsRule_46 (fun v3 M5 => ?_)
        exact J_iret (pc := 49) dX1_readsRule_49
      refine J_ifnullE (pc := 38) (r := r2) 45 dX1_readsRule_38 rfl (fun ea1 => ?_) (fun a1 ea1 => ?_)
      · subst ea1
        refine J_iconst (pc := 45) 0 dX1_readsRule_45 (by decide) ?_
        exact J_sub (A := [none, none]) trivial (hj2 0 M3)
      · subst ea1
        refine J_iconst (pc := 41) 1 dX1_readsRule_41 (by decide) ?_
        refine J_goto (pc := 42) 46 dX1_readsRule_42 rfl ?_
        exact J_sub (A := [none, none]) trivial (hj2 1 M3)
    · refine J_iconst (pc := 28) 0 dX1_readsRule_28 (by decide) ?_
      refine J_goto (pc := 29) 49 dX1_readsRule_29 rfl ?_
      exact J_iret (pc := 49) dX1_readsRule_49
  refine J_if_ne (pc := 9) 16 dX1_readsRule_9 rfl (fun h => if_neg h) (fun h => if_pos h) (fun _ => ?_) (fun _ => ?_)
  · refine J_aload_n (pc := 16) dX1_readsRule_16 rfl ?_
    refine J_iconst (pc := 17) 0 dX1_readsRule_17 (by decide) ?_
    refine J_callV (pc := 18) (n := 1) (b := 20) (vs := [.int 0]) (ci := 0) (fun l => C_x_reads l 0 M1) (lw_V q574 q576 qs14 q116 q577) nmv_X1_reads rfl (by omega) (by decide) rfl (fun h => sh_k1 h 0 rfl) rfl (Nat.le_of_ble_eq_true rfl) dX1_readsRule_18 (fun r3 M6 => ?_)
    exact J_sub (A := [some (.ref 20), some (.int v1)]) ⟨rfl, ⟨rfl, trivial⟩⟩ (hj1 r3 M6)
  · refine J_null (pc := 12) dX1_readsRule_12 ?_
    refine J_goto (pc := 13) 21 dX1_readsRule_13 rfl ?_
    exact J_sub (A := [some (.ref 20), some (.int v1)]) ⟨rfl, ⟨rfl, trivial⟩⟩ (hj1 none M1)

theorem C_x_readsRule (l : Launch) (M : PM) : Ctr l Sh yX1_readsRule cX1_readsRule 2 (some .int) 141 rvI [.ref 20] M (x_readsRule M) := Ctr.of (by decide +kernel) (Nat.le_of_ble_eq_true rfl) (fun G => t_x_readsRule G M)

abbrev T_x_rule (G : JG) (M : PM) (pc : Nat) (L : List (Option Value)) (S : List Value) (o : Option (Int32 × PM)) : Prop := JJ G cX1_rule yX1_rule 2 142 (some .int) Sh (finR G Sh rvI) M pc L S o
def x_rule (M : PM) : Option (Int32 × PM) :=
    bd (x_readsRule M) fun v1 M1 =>
    if v1 = 0 then (lt (M1.r 20 39) fun r1 =>
    lt (M1.sr 20 38 r1) fun M2 =>
    some (v1, M2))
    else (some (v1, M1))

set_option maxHeartbeats 4000000 in
theorem t_x_rule (G : JG) (M : PM) : T_x_rule G  M 0 (ent [.ref 20] 2) [] (x_rule M) := by
  unfold x_rule
  refine J_aload_n (pc := 0) dX1_rule_0 rfl ?_
  refine J_callV (pc := 1) (n := 0) (b := 20) (vs := []) (ci := 0) (fun l => C_x_readsRule l  M) (lw_V q570 q572 qs13 q116 q573) nmv_X1_readsRule rfl (by omega) (by decide) rfl (fun h => sh_k1 h 0 rfl) rfl (Nat.le_of_ble_eq_true rfl) dX1_rule_1 (fun v1 M1 => ?_)
  refine J_istore_n (pc := 4) dX1_rule_4 (by decide) ?_
  refine J_iload_n (pc := 5) dX1_rule_5 rfl ?_
  refine J_if_ne (pc := 6) 17 dX1_rule_6 rfl (fun h => if_neg h) (fun h => if_pos h) (fun _ => ?_) (fun _ => ?_)
  · refine J_iload_n (pc := 17) dX1_rule_17 rfl ?_
    exact J_iret (pc := 18) dX1_rule_18
  · refine J_aload_n (pc := 9) dX1_rule_9 rfl ?_
    refine J_aload_n (pc := 10) dX1_rule_10 rfl ?_
    refine J_getO (pc := 11) (c := 0) rfl in_X1 39 (by decide) q223 rfl (fun h => sh_k1 h 0 rfl) (fun _ _ => fv_rf (Or.inl ⟨_, rfl⟩)) dX1_rule_11 (fun r1 => ?_)
    refine J_put (pc := 14) (a := 20) (v := va_rf r1) (M' := M1.sr 20 38 r1) (c := 0) rfl in_X1 tyX1_ok fnX1 38 (by decide) q222 rfl (Or.inl rfl) (fun h => sh_k1 h 0 rfl) (fun ad => (nrw_r _ (Or.inl ⟨_, rfl⟩) r1 ad).1) (fun ad => (nrw_r _ (Or.inl ⟨_, rfl⟩) r1 ad).2) ⟨⟨rfl, rfl⟩, rfl⟩ (fun _ _ => rfl) (fun _ _ => rfl) (fun _ hb => up2_same hb) (put_r (fun _ _ _ => rfl)) (fun h => Sh_sr h (by decide)) dX1_rule_14 ?_
    refine J_ltM (fun M2 => ?_)
    refine J_iload_n (pc := 17) dX1_rule_17 rfl ?_
    exact J_iret (pc := 18) dX1_rule_18

theorem C_x_rule (l : Launch) (M : PM) : Ctr l Sh yX1_rule cX1_rule 2 (some .int) 142 rvI [.ref 20] M (x_rule M) := Ctr.of (by decide +kernel) (Nat.le_of_ble_eq_true rfl) (fun G => t_x_rule G M)

abbrev T_x_sheet (G : JG) (M : PM) (pc : Nat) (L : List (Option Value)) (S : List Value) (o : Option (Int32 × PM)) : Prop := JJ G cX1_sheet yX1_sheet 9 2 (some .int) Sh (finR G Sh rvI) M pc L S o
def x_sheet_L40 (c1 : Int32) (c2 : Int32) (c4 : Int32) (k139 : Int32 → PM → Option (Int32 × PM)) : Nat → Int32 → Int32 → Int32 → PM → Option (Int32 × PM)
  | 0, _, _, _, _ => none
  | n + 1, v2, v3, v4, M3 =>
    if (M3.i 20 12) ≤ v4 then (k139 v2 M3)
    else (lt (if c1 = 0 then ((Int32.toInt8 v3).toInt32) else (if c1 = 1 then ((Int32.toInt16 v3).toInt32) else v3) : Int32) fun v5 =>
    jn (fun (v6 : Int32) (M4 : PM) =>
    ck v4 4 <|
    lt (M4.si 23 (ix v4) v6) fun M5 =>
    ck v4 4 <|
    lt (v2 + (M5.i 23 (ix v4))) fun v7 =>
    lt (v3 + c4) fun v8 =>
    lt (v4 + 1) fun v9 =>
    x_sheet_L40 c1 c2 c4 k139 n v7 v8 v9 M5) fun j3 =>
    if c1 = 3 then (j3 0 M3)
    else (if v4 < c2 then (j3 (imax 0 (imin 9999 v5)) M3)
    else (j3 0 M3)))

set_option maxHeartbeats 4000000 in
theorem t_x_sheet_L40 (G : JG) (c1 : Int32) (c2 : Int32) (c4 : Int32) (k139 : Int32 → PM → Option (Int32 × PM)) (hk139 : ∀ z5 Me, T_x_sheet G  Me 139 [none, some (.int c1), none, none, none, some (.int z5), none, none, none] [] (k139 z5 Me)) : ∀ (n : Nat) (v2 : Int32) (v3 : Int32) (v4 : Int32) (M3 : PM), T_x_sheet G  M3 40 [some (.ref 20), some (.int c1), some (.int c2), none, some (.int c4), some (.int v2), some (.int v3), some (.int v4), none] [] (x_sheet_L40 c1 c2 c4 k139 n v2 v3 v4 M3) := by
  intro n
  induction n with
  | zero =>
    intro v2 v3 v4 M3
    exact J_none
  | succ n ih =>
    intro v2 v3 v4 M3
    rw [x_sheet_L40]
    refine J_iload (pc := 40) dX1_sheet_40 rfl ?_
    refine J_aload_n (pc := 42) dX1_sheet_42 rfl ?_
    refine J_get (pc := 43) (c := 0) (.int (M3.i 20 12)) rfl in_X1 12 (by decide) q189 rfl (fun h => sh_k1 h 0 rfl) (fun _ _ => rfl) dX1_sheet_43 ?_
    refine J_icmp_ge (pc := 46) 139 dX1_sheet_46 rfl (fun h => if_pos h) (fun h => if_neg h) (fun _ => ?_) (fun _ => ?_)
    · exact J_sub (A := [none, some (.int c1), none, none, none, some (.int v2), none, none, none]) ⟨rfl, ⟨rfl, trivial⟩⟩ (hk139 v2 M3)
    · refine J_iload_n (pc := 49) dX1_sheet_49 rfl ?_
      refine J_ltj (β := Int32) (P := fun J => ∀ v5 : Int32, T_x_sheet G M3 72 [some (.ref 20), some (.int c1), some (.int c2), none, some (.int c4), some (.int v2), some (.int v3), some (.int v4), none] [.int v5] (J v5)) (fun v5 => ?_) (fun j2 hj2 => ?_)
      · refine J_istore (pc := 72) dX1_sheet_72 (by decide) ?_
        refine J_aload_n (pc := 74) dX1_sheet_74 rfl ?_
        refine J_get (pc := 75) (c := 0) (.ref 21) rfl in_X1 0 (by decide) q177 rfl (fun h => sh_k1 h 0 rfl) (fun h _ => fv_ref (Or.inl ⟨_, rfl⟩) (sh_r h 4 rfl)) dX1_sheet_75 ?_
        refine J_getN (host := "TollOnVowels") (pc := 78) (c := 1) (.ref 23) rfl in_X2 1 (by decide) (by decide +kernel) rfl (fun h => sh_k1 h 1 rfl) (fun h _ => fv_ref (Or.inr ⟨_, rfl⟩) (sh_r h 1 rfl)) dX1_sheet_78 ?_
        refine J_iload (pc := 81) dX1_sheet_81 rfl ?_
        refine J_iload_n (pc := 83) dX1_sheet_83 rfl ?_
        refine J_iconst (pc := 84) 3 dX1_sheet_84 (by decide) ?_
        refine J_jn (P := fun J => ∀ (v6 : Int32) (M4 : PM), T_x_sheet G  M4 110 [some (.ref 20), some (.int c1), some (.int c2), none, some (.int c4), some (.int v2), some (.int v3), some (.int v4), none] [.int v6, .int v4, .ref 23] (J v6 M4)) (fun v6 M4 => ?_) (fun j3 hj3 => ?_)
        · refine J_ck (fun h1 => ?_)
          refine J_iast (pc := 110) (a := 23) (fun h => sh_a h 3 rfl h1) (fun h => Sh_si h) dX1_sheet_110 ?_
          refine J_ltM (fun M5 => ?_)
          refine J_iload (pc := 111) dX1_sheet_111 rfl ?_
          refine J_aload_n (pc := 113) dX1_sheet_113 rfl ?_
          refine J_get (pc := 114) (c := 0) (.ref 21) rfl in_X1 0 (by decide) q177 rfl (fun h => sh_k1 h 0 rfl) (fun h _ => fv_ref (Or.inl ⟨_, rfl⟩) (sh_r h 4 rfl)) dX1_sheet_114 ?_
          refine J_getN (host := "TollOnVowels") (pc := 117) (c := 1) (.ref 23) rfl in_X2 1 (by decide) (by decide +kernel) rfl (fun h => sh_k1 h 1 rfl) (fun h _ => fv_ref (Or.inr ⟨_, rfl⟩) (sh_r h 1 rfl)) dX1_sheet_117 ?_
          refine J_iload (pc := 120) dX1_sheet_120 rfl ?_
          refine J_ck (fun h2 => ?_)
          refine J_iald (pc := 122) (a := 23) (fun h => sh_a h 3 rfl h2) dX1_sheet_122 ?_
          refine J_iadd (pc := 123) dX1_sheet_123 ?_
          refine J_lt (β := Int32) (v := (v2 + (M5.i 23 (ix v4)))) (L := fun _ => _) (S := fun v7 => [.int v7]) (fun v7 => ?_)
          refine J_istore (pc := 124) dX1_sheet_124 (by decide) ?_
          refine J_iload (pc := 126) dX1_sheet_126 rfl ?_
          refine J_iload (pc := 128) dX1_sheet_128 rfl ?_
          refine J_iadd (pc := 130) dX1_sheet_130 ?_
          refine J_lt (β := Int32) (v := (v3 + c4)) (L := fun _ => _) (S := fun v8 => [.int v8]) (fun v8 => ?_)
          refine J_istore (pc := 131) dX1_sheet_131 (by decide) ?_
          refine J_iincL (pc := 133) (n := 1) (by decide) dX1_sheet_133 rfl (by decide) (fun v9 => ?_)
          refine J_goto (pc := 136) 40 dX1_sheet_136 rfl ?_
          exact J_sub (A := [some (.ref 20), some (.int c1), some (.int c2), none, some (.int c4), some (.int v7), some (.int v8), some (.int v9), none]) ⟨rfl, ⟨rfl, ⟨rfl, ⟨rfl, ⟨rfl, ⟨rfl, ⟨rfl, trivial⟩⟩⟩⟩⟩⟩⟩ (ih v7 v8 v9 M5)
        refine J_icmp_eq (pc := 85) 94 dX1_sheet_85 rfl (fun h => if_pos h) (fun h => if_neg h) (fun _ => ?_) (fun _ => ?_)
        · refine J_iconst (pc := 94) 0 dX1_sheet_94 (by decide) ?_
          refine J_goto (pc := 95) 110 dX1_sheet_95 rfl ?_
          exact J_sub (A := [some (.ref 20), some (.int c1), some (.int c2), none, some (.int c4), some (.int v2), some (.int v3), some (.int v4), none]) ⟨rfl, ⟨rfl, ⟨rfl, ⟨rfl, ⟨rfl, ⟨rfl, ⟨rfl, trivial⟩⟩⟩⟩⟩⟩⟩ (hj3 0 M3)
        · refine J_iload (pc := 88) dX1_sheet_88 rfl ?_
          refine J_iload_n (pc := 90) dX1_sheet_90 rfl ?_
          refine J_icmp_lt (pc := 91) 98 dX1_sheet_91 rfl (fun h => if_pos h) (fun h => if_neg h) (fun _ => ?_) (fun _ => ?_)
          · refine J_iconst (pc := 98) 0 dX1_sheet_98 (by decide) ?_
            refine J_sipush (pc := 99) 9999 dX1_sheet_99 (by decide) ?_
            refine J_iload (pc := 102) dX1_sheet_102 rfl ?_
            refine J_min (pc := 104) (by omega) q409 q410 q119 q411 (Nat.le_of_ble_eq_true rfl) dX1_sheet_104 ?_
            refine J_max (pc := 107) (by omega) q564 q454 q119 q455 (Nat.le_of_ble_eq_true rfl) dX1_sheet_107 ?_
            exact J_sub (A := [some (.ref 20), some (.int c1), some (.int c2), none, some (.int c4), some (.int v2), some (.int v3), some (.int v4), none]) ⟨rfl, ⟨rfl, ⟨rfl, ⟨rfl, ⟨rfl, ⟨rfl, ⟨rfl, trivial⟩⟩⟩⟩⟩⟩⟩ (hj3 (imax 0 (imin 9999 v5)) M3)
          · refine J_iconst (pc := 94) 0 dX1_sheet_94 (by decide) ?_
            refine J_goto (pc := 95) 110 dX1_sheet_95 rfl ?_
            exact J_sub (A := [some (.ref 20), some (.int c1), some (.int c2), none, some (.int c4), some (.int v2), some (.int v3), some (.int v4), none]) ⟨rfl, ⟨rfl, ⟨rfl, ⟨rfl, ⟨rfl, ⟨rfl, ⟨rfl, trivial⟩⟩⟩⟩⟩⟩⟩ (hj3 0 M3)
      refine J_if_ne (pc := 50) 59 dX1_sheet_50 rfl (fun h => congrArg j2 (if_neg h)) (fun h => congrArg j2 (if_pos h)) (fun _ => ?_) (fun _ => ?_)
      · refine J_iload_n (pc := 59) dX1_sheet_59 rfl ?_
        refine J_iconst (pc := 60) 1 dX1_sheet_60 (by decide) ?_
        refine J_icmp_ne (pc := 61) 70 dX1_sheet_61 rfl (fun h => congrArg j2 (if_neg h)) (fun h => congrArg j2 (if_pos h)) (fun _ => ?_) (fun _ => ?_)
        · refine J_iload (pc := 70) dX1_sheet_70 rfl ?_
          exact J_sub (A := [some (.ref 20), some (.int c1), some (.int c2), none, some (.int c4), some (.int v2), some (.int v3), some (.int v4), none]) ⟨rfl, ⟨rfl, ⟨rfl, ⟨rfl, ⟨rfl, ⟨rfl, ⟨rfl, trivial⟩⟩⟩⟩⟩⟩⟩ (hj2 v3)
        · refine J_iload (pc := 64) dX1_sheet_64 rfl ?_
          refine J_i2s (pc := 66) dX1_sheet_66 ?_
          refine J_goto (pc := 67) 72 dX1_sheet_67 rfl ?_
          exact J_sub (A := [some (.ref 20), some (.int c1), some (.int c2), none, some (.int c4), some (.int v2), some (.int v3), some (.int v4), none]) ⟨rfl, ⟨rfl, ⟨rfl, ⟨rfl, ⟨rfl, ⟨rfl, ⟨rfl, trivial⟩⟩⟩⟩⟩⟩⟩ (hj2 ((Int32.toInt16 v3).toInt32))
      · refine J_iload (pc := 53) dX1_sheet_53 rfl ?_
        refine J_i2b (pc := 55) dX1_sheet_55 ?_
        refine J_goto (pc := 56) 72 dX1_sheet_56 rfl ?_
        exact J_sub (A := [some (.ref 20), some (.int c1), some (.int c2), none, some (.int c4), some (.int v2), some (.int v3), some (.int v4), none]) ⟨rfl, ⟨rfl, ⟨rfl, ⟨rfl, ⟨rfl, ⟨rfl, ⟨rfl, trivial⟩⟩⟩⟩⟩⟩⟩ (hj2 ((Int32.toInt8 v3).toInt32))

def x_sheet (p1 : Int32) (p2 : Int32) (p3 : Int32) (p4 : Int32) (M : PM) : Option (Int32 × PM) :=
    bd (x_in (Int32.toInt64 p1) 0 3 M) fun v1 M1 =>
    if v1 = 0 then (some ((-1), M1))
    else (if p2 ≤ 4 then (jn (fun (M2 : PM) =>
    x_sheet_L40 p1 p2 p4 (fun (v10 : Int32) (M6 : PM) =>
    if p1 = 3 then (some ((-3), M6))
    else (some (v10, M6))) FU 0 p3 0 M2) fun j1 =>
    if p1 = 3 then (j1 M1)
    else (if 0 ≤ p2 then (j1 M1)
    else (some ((-2), M1))))
    else (some ((-1), M1)))

set_option maxHeartbeats 4000000 in
theorem t_x_sheet (G : JG) (p1 : Int32) (p2 : Int32) (p3 : Int32) (p4 : Int32) (M : PM) : T_x_sheet G  M 0 (ent [.ref 20, .int p1, .int p2, .int p3, .int p4] 9) [] (x_sheet p1 p2 p3 p4 M) := by
  unfold x_sheet
  refine J_iload_n (pc := 0) dX1_sheet_0 rfl ?_
  refine J_i2l (pc := 1) dX1_sheet_1 ?_
  refine J_lconst (pc := 2) 0 dX1_sheet_2 (by decide) ?_
  refine J_ldc2 (pc := 3) 3 q660 dX1_sheet_3 ?_
  refine J_callS (pc := 6) (n := 3) (vs := [.long (Int32.toInt64 p1), .long 0, .long 3]) (fun l => C_x_in l (Int32.toInt64 p1) 0 3 M) (lw_S q398 q399 q116 q400) nmh_X1_in rfl (by omega) (by decide) rfl (Nat.le_of_ble_eq_true rfl) dX1_sheet_6 (fun v1 M1 => ?_)
  refine J_if_eq (pc := 9) 17 dX1_sheet_9 rfl (fun h => if_pos h) (fun h => if_neg h) (fun _ => ?_) (fun _ => ?_)
  · refine J_iconst (pc := 17) (-1) dX1_sheet_17 (by decide) ?_
    exact J_iret (pc := 18) dX1_sheet_18
  · refine J_iload_n (pc := 12) dX1_sheet_12 rfl ?_
    refine J_iconst (pc := 13) 4 dX1_sheet_13 (by decide) ?_
    refine J_icmp_le (pc := 14) 19 dX1_sheet_14 rfl (fun h => if_pos h) (fun h => if_neg h) (fun _ => ?_) (fun _ => ?_)
    · refine J_iload_n (pc := 19) dX1_sheet_19 rfl ?_
      refine J_iconst (pc := 20) 3 dX1_sheet_20 (by decide) ?_
      refine J_jn (P := fun J => ∀ (M2 : PM), T_x_sheet G  M2 31 [some (.ref 20), some (.int p1), some (.int p2), some (.int p3), some (.int p4), none, none, none, none] [] (J M2)) (fun M2 => ?_) (fun j1 hj1 => ?_)
      · refine J_iconst (pc := 31) 0 dX1_sheet_31 (by decide) ?_
        refine J_istore (pc := 32) dX1_sheet_32 (by decide) ?_
        refine J_iload_n (pc := 34) dX1_sheet_34 rfl ?_
        refine J_istore (pc := 35) dX1_sheet_35 (by decide) ?_
        refine J_iconst (pc := 37) 0 dX1_sheet_37 (by decide) ?_
        refine J_istore (pc := 38) dX1_sheet_38 (by decide) ?_
        refine J_sub (A := [some (.ref 20), some (.int p1), some (.int p2), none, some (.int p4), some (.int 0), some (.int p3), some (.int 0), none]) ⟨rfl, ⟨rfl, ⟨rfl, ⟨rfl, ⟨rfl, ⟨rfl, ⟨rfl, trivial⟩⟩⟩⟩⟩⟩⟩ (t_x_sheet_L40 G p1 p2 p4 _ ?_ FU 0 p3 0 M2)
        · intro v10 M6
          refine J_iload_n (pc := 139) dX1_sheet_139 rfl ?_
          refine J_iconst (pc := 140) 3 dX1_sheet_140 (by decide) ?_
          refine J_icmp_ne (pc := 141) 149 dX1_sheet_141 rfl (fun h => if_neg h) (fun h => if_pos h) (fun _ => ?_) (fun _ => ?_)
          · refine J_iload (pc := 149) dX1_sheet_149 rfl ?_
            exact J_iret (pc := 151) dX1_sheet_151
          · refine J_bipush (pc := 144) (-3) dX1_sheet_144 (by decide) ?_
            refine J_goto (pc := 146) 151 dX1_sheet_146 rfl ?_
            exact J_iret (pc := 151) dX1_sheet_151
      refine J_icmp_eq (pc := 21) 31 dX1_sheet_21 rfl (fun h => if_pos h) (fun h => if_neg h) (fun _ => ?_) (fun _ => ?_)
      · exact J_sub (A := [some (.ref 20), some (.int p1), some (.int p2), some (.int p3), some (.int p4), none, none, none, none]) ⟨rfl, ⟨rfl, ⟨rfl, ⟨rfl, ⟨rfl, trivial⟩⟩⟩⟩⟩ (hj1 M1)
      · refine J_iload_n (pc := 24) dX1_sheet_24 rfl ?_
        refine J_if_ge (pc := 25) 31 dX1_sheet_25 rfl (fun h => if_pos h) (fun h => if_neg h) (fun _ => ?_) (fun _ => ?_)
        · exact J_sub (A := [some (.ref 20), some (.int p1), some (.int p2), some (.int p3), some (.int p4), none, none, none, none]) ⟨rfl, ⟨rfl, ⟨rfl, ⟨rfl, ⟨rfl, trivial⟩⟩⟩⟩⟩ (hj1 M1)
        · refine J_bipush (pc := 28) (-2) dX1_sheet_28 (by decide) ?_
          exact J_iret (pc := 30) dX1_sheet_30
    · refine J_iconst (pc := 17) (-1) dX1_sheet_17 (by decide) ?_
      exact J_iret (pc := 18) dX1_sheet_18

theorem C_x_sheet (l : Launch) (p1 : Int32) (p2 : Int32) (p3 : Int32) (p4 : Int32) (M : PM) : Ctr l Sh yX1_sheet cX1_sheet 9 (some .int) 2 rvI [.ref 20, .int p1, .int p2, .int p3, .int p4] M (x_sheet p1 p2 p3 p4 M) := Ctr.of (by decide +kernel) (Nat.le_of_ble_eq_true rfl) (fun G => t_x_sheet G p1 p2 p3 p4 M)

