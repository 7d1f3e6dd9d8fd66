set_option maxRecDepth 100000
abbrev T_m_thrown (G : JG) (M : PM) (pc : Nat) (L : List (Option Value)) (S : List Value) (o : Option (Int32 × PM)) : Prop := JJ G cX3_thrown yX3_thrown 1 1 (some .int) Sh (finR G Sh rvI) M pc L S o
def m_thrown (M : PM) : Option (Int32 × PM) :=
    some ((M.i 72 13), M)

set_option maxHeartbeats 4000000 in
theorem t_m_thrown (G : JG) (M : PM) : T_m_thrown G  M 0 (ent [.ref 72] 1) [] (m_thrown M) := by
  unfold m_thrown
  refine J_aload_n (pc := 0) dX3_thrown_0 rfl ?_
  refine J_get (pc := 1) (c := 2) (.int (M.i 72 13)) rfl in_X3 13 (by decide) q1120 rfl (fun h => sh_k1 h 52 rfl) (fun _ _ => rfl) dX3_thrown_1 ?_
  exact J_iret (pc := 4) dX3_thrown_4

theorem C_m_thrown (l : Launch) (M : PM) : Ctr l Sh yX3_thrown cX3_thrown 1 (some .int) 1 rvI [.ref 72] M (m_thrown M) := Ctr.of (by decide +kernel) (Nat.le_of_ble_eq_true rfl) (fun G => t_m_thrown G M)

abbrev T_m_sign (G : JG) (M : PM) (pc : Nat) (L : List (Option Value)) (S : List Value) (o : Option (Int32 × PM)) : Prop := JJ G cX3_sign yX3_sign 3 1 (some .int) Sh (finR G Sh rvI) M pc L S o
def m_sign_L20 (c1 : Int32) (k53 : PM → Option (Int32 × PM)) : Nat → Int32 → PM → Option (Int32 × PM)
  | 0, _, _ => none
  | n + 1, v1, M2 =>
    if v1 < 0 then (k53 M2)
    else (lt (M2.i 72 10) fun v2 =>
    lt (M2.si 72 10 (v2 + 1)) fun M3 =>
    ck v2 80 <|
    lt (M3.si 78 (ix v2) ((Int32.toInt8 ((Int32.toInt8 (c1 >>> ((8 * v1) &&& 31))).toInt32)).toInt32)) fun M4 =>
    lt (v1 + (-1)) fun v3 =>
    m_sign_L20 c1 k53 n v3 M4)

set_option maxHeartbeats 4000000 in
theorem t_m_sign_L20 (G : JG) (c1 : Int32) (k53 : PM → Option (Int32 × PM)) (hk53 : ∀ Me, T_m_sign G  Me 53 [some (.ref 72), none, none] [] (k53 Me)) : ∀ (n : Nat) (v1 : Int32) (M2 : PM), T_m_sign G  M2 20 [some (.ref 72), some (.int c1), some (.int v1)] [] (m_sign_L20 c1 k53 n v1 M2) := by
  intro n
  induction n with
  | zero =>
    intro v1 M2
    exact J_none
  | succ n ih =>
    intro v1 M2
    rw [m_sign_L20]
    refine J_iload_n (pc := 20) dX3_sign_20 rfl ?_
    refine J_if_lt (pc := 21) 53 dX3_sign_21 rfl (fun h => if_pos h) (fun h => if_neg h) (fun _ => ?_) (fun _ => ?_)
    · exact J_sub (A := [some (.ref 72), none, none]) ⟨rfl, trivial⟩ (hk53 M2)
    · refine J_aload_n (pc := 24) dX3_sign_24 rfl ?_
      refine J_get (pc := 25) (c := 2) (.ref 78) rfl in_X3 9 (by decide) q1116 rfl (fun h => sh_k1 h 52 rfl) (fun h _ => fv_ref (Or.inr ⟨_, rfl⟩) (sh_r h 56 rfl)) dX3_sign_25 ?_
      refine J_aload_n (pc := 28) dX3_sign_28 rfl ?_
      refine J_dup (pc := 29) dX3_sign_29 rfl ?_
      refine J_get (pc := 30) (c := 2) (.int (M2.i 72 10)) rfl in_X3 10 (by decide) q1117 rfl (fun h => sh_k1 h 52 rfl) (fun _ _ => rfl) dX3_sign_30 ?_
      refine J_lt (β := Int32) (v := (M2.i 72 10)) (L := fun _ => _) (S := fun v2 => [.int v2, .ref 72, .ref 78]) (fun v2 => ?_)
      refine J_dup_x1 (pc := 33) dX3_sign_33 rfl rfl ?_
      refine J_iconst (pc := 34) 1 dX3_sign_34 (by decide) ?_
      refine J_iadd (pc := 35) dX3_sign_35 ?_
      refine J_put (pc := 36) (a := 72) (v := .int (v2 + 1)) (M' := M2.si 72 10 (v2 + 1)) (c := 2) rfl in_X3 tyX3_ok fnX3 10 (by decide) q1117 rfl (Or.inl rfl) (fun h => sh_k1 h 52 rfl) (fun _ => rfl) (fun _ => rfl) ⟨⟨rfl, rfl⟩, rfl⟩ (fun _ hb => up2_same hb) (fun _ _ => rfl) (fun _ _ => rfl) (put_i (fun _ _ _ => rfl)) (fun h => Sh_si h) dX3_sign_36 ?_
      refine J_ltM (fun M3 => ?_)
      refine J_iload_n (pc := 39) dX3_sign_39 rfl ?_
      refine J_bipush (pc := 40) 8 dX3_sign_40 (by decide) ?_
      refine J_iload_n (pc := 42) dX3_sign_42 rfl ?_
      refine J_imul (pc := 43) dX3_sign_43 ?_
      refine J_ishr (pc := 44) dX3_sign_44 ?_
      refine J_i2b (pc := 45) dX3_sign_45 ?_
      refine J_ck (fun h1 => ?_)
      refine J_bast (pc := 46) (a := 78) (fun h => sh_a h 58 rfl h1) (fun h => Sh_si h) dX3_sign_46 ?_
      refine J_ltM (fun M4 => ?_)
      refine J_iincL (pc := 47) (n := (-1)) (by decide) dX3_sign_47 rfl (by decide) (fun v3 => ?_)
      refine J_goto (pc := 50) 20 dX3_sign_50 rfl ?_
      exact J_sub (A := [some (.ref 72), some (.int c1), some (.int v3)]) ⟨rfl, ⟨rfl, ⟨rfl, trivial⟩⟩⟩ (ih v3 M4)

def m_sign (p1 : Int32) (M : PM) : Option (Int32 × PM) :=
    lt (M.si 72 13 0) fun M1 =>
    if ((M1.i 72 10) + 4) ≤ 80 then (m_sign_L20 p1 (fun (M5 : PM) =>
    some ((M5.i 72 10), M5)) FU 3 M1)
    else (some ((-1), M1))

set_option maxHeartbeats 4000000 in
theorem t_m_sign (G : JG) (p1 : Int32) (M : PM) : T_m_sign G  M 0 (ent [.ref 72, .int p1] 3) [] (m_sign p1 M) := by
  unfold m_sign
  refine J_aload_n (pc := 0) dX3_sign_0 rfl ?_
  refine J_iconst (pc := 1) 0 dX3_sign_1 (by decide) ?_
  refine J_put (pc := 2) (a := 72) (v := .int 0) (M' := M.si 72 13 0) (c := 2) rfl in_X3 tyX3_ok fnX3 13 (by decide) q1120 rfl (Or.inl rfl) (fun h => sh_k1 h 52 rfl) (fun _ => rfl) (fun _ => rfl) ⟨⟨rfl, rfl⟩, rfl⟩ (fun _ hb => up2_same hb) (fun _ _ => rfl) (fun _ _ => rfl) (put_i (fun _ _ _ => rfl)) (fun h => Sh_si h) dX3_sign_2 ?_
  refine J_ltM (fun M1 => ?_)
  refine J_aload_n (pc := 5) dX3_sign_5 rfl ?_
  refine J_get (pc := 6) (c := 2) (.int (M1.i 72 10)) rfl in_X3 10 (by decide) q1117 rfl (fun h => sh_k1 h 52 rfl) (fun _ _ => rfl) dX3_sign_6 ?_
  refine J_iconst (pc := 9) 4 dX3_sign_9 (by decide) ?_
  refine J_iadd (pc := 10) dX3_sign_10 ?_
  refine J_bipush (pc := 11) 80 dX3_sign_11 (by decide) ?_
  refine J_icmp_le (pc := 13) 18 dX3_sign_13 rfl (fun h => if_pos h) (fun h => if_neg h) (fun _ => ?_) (fun _ => ?_)
  · refine J_iconst (pc := 18) 3 dX3_sign_18 (by decide) ?_
    refine J_istore_n (pc := 19) dX3_sign_19 (by decide) ?_
    refine J_sub (A := [some (.ref 72), some (.int p1), some (.int 3)]) ⟨rfl, ⟨rfl, ⟨rfl, trivial⟩⟩⟩ (t_m_sign_L20 G p1 _ ?_ FU 3 M1)
    · intro M5
      refine J_aload_n (pc := 53) dX3_sign_53 rfl ?_
      refine J_get (pc := 54) (c := 2) (.int (M5.i 72 10)) rfl in_X3 10 (by decide) q1117 rfl (fun h => sh_k1 h 52 rfl) (fun _ _ => rfl) dX3_sign_54 ?_
      exact J_iret (pc := 57) dX3_sign_57
  · refine J_iconst (pc := 16) (-1) dX3_sign_16 (by decide) ?_
    exact J_iret (pc := 17) dX3_sign_17

theorem C_m_sign (l : Launch) (p1 : Int32) (M : PM) : Ctr l Sh yX3_sign cX3_sign 3 (some .int) 1 rvI [.ref 72, .int p1] M (m_sign p1 M) := Ctr.of (by decide +kernel) (Nat.le_of_ble_eq_true rfl) (fun G => t_m_sign G p1 M)

abbrev T_m_in (G : JG) (M : PM) (pc : Nat) (L : List (Option Value)) (S : List Value) (o : Option (Int32 × PM)) : Prop := JJ G cX3_in yX3_in 3 1 (some .boolean) Sh (finR G Sh rvI) M pc L S o
def m_in (p0 : Int32) (p1 : Int32) (p2 : Int32) (M : PM) : Option (Int32 × PM) :=
    if p0 < p1 then (some (0, M))
    else (if p2 < p0 then (some (0, M))
    else (some (1, M)))

set_option maxHeartbeats 4000000 in
theorem t_m_in (G : JG) (p0 : Int32) (p1 : Int32) (p2 : Int32) (M : PM) : T_m_in G  M 0 (ent [.int p0, .int p1, .int p2] 3) [] (m_in p0 p1 p2 M) := by
  unfold m_in
  refine J_iload_n (pc := 0) dX3_in_0 rfl ?_
  refine J_iload_n (pc := 1) dX3_in_1 rfl ?_
  refine J_icmp_lt (pc := 2) 14 dX3_in_2 rfl (fun h => if_pos h) (fun h => if_neg h) (fun _ => ?_) (fun _ => ?_)
  · refine J_iconst (pc := 14) 0 dX3_in_14 (by decide) ?_
    exact J_zret (pc := 15) rfl dX3_in_15
  · refine J_iload_n (pc := 5) dX3_in_5 rfl ?_
    refine J_iload_n (pc := 6) dX3_in_6 rfl ?_
    refine J_icmp_gt (pc := 7) 14 dX3_in_7 rfl (fun h => if_pos h) (fun h => if_neg h) (fun _ => ?_) (fun _ => ?_)
    · refine J_iconst (pc := 14) 0 dX3_in_14 (by decide) ?_
      exact J_zret (pc := 15) rfl dX3_in_15
    · refine J_iconst (pc := 10) 1 dX3_in_10 (by decide) ?_
      refine J_goto (pc := 11) 15 dX3_in_11 rfl ?_
      exact J_zret (pc := 15) rfl dX3_in_15

theorem C_m_in (l : Launch) (p0 : Int32) (p1 : Int32) (p2 : Int32) (M : PM) : Ctr l Sh yX3_in cX3_in 3 (some .boolean) 1 rvI [.int p0, .int p1, .int p2] M (m_in p0 p1 p2 M) := Ctr.of (by decide +kernel) (Nat.le_of_ble_eq_true rfl) (fun G => t_m_in G p0 p1 p2 M)

abbrev T_m_end (G : JG) (M : PM) (pc : Nat) (L : List (Option Value)) (S : List Value) (o : Option (Int32 × PM)) : Prop := JJ G cX3_end yX3_end 2 2 (some .boolean) Sh (finR G Sh rvI) M pc L S o
def m_end (p1 : Int32) (M : PM) : Option (Int32 × PM) :=
    lt (M.si 72 13 0) fun M1 =>
    bd (m_in p1 0 (M1.i 72 10) M1) fun v1 M2 =>
    if v1 = 0 then (some (0, M2))
    else (lt (M2.si 72 10 p1) fun M3 =>
    some (1, M3))

set_option maxHeartbeats 4000000 in
theorem t_m_end (G : JG) (p1 : Int32) (M : PM) : T_m_end G  M 0 (ent [.ref 72, .int p1] 2) [] (m_end p1 M) := by
  unfold m_end
  refine J_aload_n (pc := 0) dX3_end_0 rfl ?_
  refine J_iconst (pc := 1) 0 dX3_end_1 (by decide) ?_
  refine J_put (pc := 2) (a := 72) (v := .int 0) (M' := M.si 72 13 0) (c := 2) rfl in_X3 tyX3_ok fnX3 13 (by decide) q1120 rfl (Or.inl rfl) (fun h => sh_k1 h 52 rfl) (fun _ => rfl) (fun _ => rfl) ⟨⟨rfl, rfl⟩, rfl⟩ (fun _ hb => up2_same hb) (fun _ _ => rfl) (fun _ _ => rfl) (put_i (fun _ _ _ => rfl)) (fun h => Sh_si h) dX3_end_2 ?_
  refine J_ltM (fun M1 => ?_)
  refine J_iload_n (pc := 5) dX3_end_5 rfl ?_
  refine J_iconst (pc := 6) 0 dX3_end_6 (by decide) ?_
  refine J_aload_n (pc := 7) dX3_end_7 rfl ?_
  refine J_get (pc := 8) (c := 2) (.int (M1.i 72 10)) rfl in_X3 10 (by decide) q1117 rfl (fun h => sh_k1 h 52 rfl) (fun _ _ => rfl) dX3_end_8 ?_
  refine J_callS (pc := 11) (n := 3) (vs := [.int p1, .int 0, .int (M1.i 72 10)]) (fun l => C_m_in l p1 0 (M1.i 72 10) M1) (lw_S q1289 q1290 q118 q1291) nmh_X3_in rfl (by omega) (by decide) rfl (Nat.le_of_ble_eq_true rfl) dX3_end_11 (fun v1 M2 => ?_)
  refine J_if_ne (pc := 14) 19 dX3_end_14 rfl (fun h => if_neg h) (fun h => if_pos h) (fun _ => ?_) (fun _ => ?_)
  · refine J_aload_n (pc := 19) dX3_end_19 rfl ?_
    refine J_iload_n (pc := 20) dX3_end_20 rfl ?_
    refine J_put (pc := 21) (a := 72) (v := .int p1) (M' := M2.si 72 10 p1) (c := 2) rfl in_X3 tyX3_ok fnX3 10 (by decide) q1117 rfl (Or.inl rfl) (fun h => sh_k1 h 52 rfl) (fun _ => rfl) (fun _ => rfl) ⟨⟨rfl, rfl⟩, rfl⟩ (fun _ hb => up2_same hb) (fun _ _ => rfl) (fun _ _ => rfl) (put_i (fun _ _ _ => rfl)) (fun h => Sh_si h) dX3_end_21 ?_
    refine J_ltM (fun M3 => ?_)
    refine J_iconst (pc := 24) 1 dX3_end_24 (by decide) ?_
    exact J_zret (pc := 25) rfl dX3_end_25
  · refine J_iconst (pc := 17) 0 dX3_end_17 (by decide) ?_
    exact J_zret (pc := 18) rfl dX3_end_18

theorem C_m_end (l : Launch) (p1 : Int32) (M : PM) : Ctr l Sh yX3_end cX3_end 2 (some .boolean) 2 rvI [.ref 72, .int p1] M (m_end p1 M) := Ctr.of (by decide +kernel) (Nat.le_of_ble_eq_true rfl) (fun G => t_m_end G p1 M)

abbrev T_m_road (G : JG) (M : PM) (pc : Nat) (L : List (Option Value)) (S : List Value) (o : Option (Int32 × PM)) : Prop := JJ G cX3_road yX3_road 4 2 (some .int) Sh (finR G Sh rvI) M pc L S o
def m_road_L19 (c1 : Int32) (k45 : PM → Option (Int32 × PM)) : Nat → Int32 → PM → Option (Int32 × PM)
  | 0, _, _ => none
  | n + 1, v2, M3 =>
    if (M3.i 72 6) ≤ v2 then (k45 M3)
    else (ck v2 44 <|
    if (M3.i 73 (ix v2)) < c1 then (lt (v2 + 1) fun v3 =>
    m_road_L19 c1 k45 n v3 M3)
    else (some ((-1), M3)))

set_option maxHeartbeats 4000000 in
theorem t_m_road_L19 (G : JG) (c1 : Int32) (k45 : PM → Option (Int32 × PM)) (hk45 : ∀ Me, T_m_road G  Me 45 [some (.ref 72), some (.int c1), none, none] [] (k45 Me)) : ∀ (n : Nat) (v2 : Int32) (M3 : PM), T_m_road G  M3 19 [some (.ref 72), some (.int c1), some (.int v2), none] [] (m_road_L19 c1 k45 n v2 M3) := by
  intro n
  induction n with
  | zero =>
    intro v2 M3
    exact J_none
  | succ n ih =>
    intro v2 M3
    rw [m_road_L19]
    refine J_iload_n (pc := 19) dX3_road_19 rfl ?_
    refine J_aload_n (pc := 20) dX3_road_20 rfl ?_
    refine J_get (pc := 21) (c := 2) (.int (M3.i 72 6)) rfl in_X3 6 (by decide) q1113 rfl (fun h => sh_k1 h 52 rfl) (fun _ _ => rfl) dX3_road_21 ?_
    refine J_icmp_ge (pc := 24) 45 dX3_road_24 rfl (fun h => if_pos h) (fun h => if_neg h) (fun _ => ?_) (fun _ => ?_)
    · exact J_sub (A := [some (.ref 72), some (.int c1), none, none]) ⟨rfl, ⟨rfl, trivial⟩⟩ (hk45 M3)
    · refine J_aload_n (pc := 27) dX3_road_27 rfl ?_
      refine J_get (pc := 28) (c := 2) (.ref 73) rfl in_X3 0 (by decide) q1107 rfl (fun h => sh_k1 h 52 rfl) (fun h _ => fv_ref (Or.inr ⟨_, rfl⟩) (sh_r h 51 rfl)) dX3_road_28 ?_
      refine J_iload_n (pc := 31) dX3_road_31 rfl ?_
      refine J_ck (fun h1 => ?_)
      refine J_iald (pc := 32) (a := 73) (fun h => sh_a h 53 rfl h1) dX3_road_32 ?_
      refine J_iload_n (pc := 33) dX3_road_33 rfl ?_
      refine J_icmp_lt (pc := 34) 39 dX3_road_34 rfl (fun h => if_pos h) (fun h => if_neg h) (fun _ => ?_) (fun _ => ?_)
      · refine J_iincL (pc := 39) (n := 1) (by decide) dX3_road_39 rfl (by decide) (fun v3 => ?_)
        refine J_goto (pc := 42) 19 dX3_road_42 rfl ?_
        exact J_sub (A := [some (.ref 72), some (.int c1), some (.int v3), none]) ⟨rfl, ⟨rfl, ⟨rfl, trivial⟩⟩⟩ (ih v3 M3)
      · refine J_iconst (pc := 37) (-1) dX3_road_37 (by decide) ?_
        exact J_iret (pc := 38) dX3_road_38

def m_road_L47 (c1 : Int32) (k77 : PM → Option (Int32 × PM)) : Nat → Int32 → PM → Option (Int32 × PM)
  | 0, _, _ => none
  | n + 1, v4, M5 =>
    if (M5.i 72 7) ≤ v4 then (k77 M5)
    else (ck ((4 * v4) + 2) 32 <|
    if (M5.i 77 (ix ((4 * v4) + 2))) < c1 then (lt (v4 + 1) fun v5 =>
    m_road_L47 c1 k77 n v5 M5)
    else (some ((-1), M5)))

set_option maxHeartbeats 4000000 in
theorem t_m_road_L47 (G : JG) (c1 : Int32) (k77 : PM → Option (Int32 × PM)) (hk77 : ∀ Me, T_m_road G  Me 77 [some (.ref 72), some (.int c1), none, none] [] (k77 Me)) : ∀ (n : Nat) (v4 : Int32) (M5 : PM), T_m_road G  M5 47 [some (.ref 72), some (.int c1), some (.int v4), none] [] (m_road_L47 c1 k77 n v4 M5) := by
  intro n
  induction n with
  | zero =>
    intro v4 M5
    exact J_none
  | succ n ih =>
    intro v4 M5
    rw [m_road_L47]
    refine J_iload_n (pc := 47) dX3_road_47 rfl ?_
    refine J_aload_n (pc := 48) dX3_road_48 rfl ?_
    refine J_get (pc := 49) (c := 2) (.int (M5.i 72 7)) rfl in_X3 7 (by decide) q1114 rfl (fun h => sh_k1 h 52 rfl) (fun _ _ => rfl) dX3_road_49 ?_
    refine J_icmp_ge (pc := 52) 77 dX3_road_52 rfl (fun h => if_pos h) (fun h => if_neg h) (fun _ => ?_) (fun _ => ?_)
    · exact J_sub (A := [some (.ref 72), some (.int c1), none, none]) ⟨rfl, ⟨rfl, trivial⟩⟩ (hk77 M5)
    · refine J_aload_n (pc := 55) dX3_road_55 rfl ?_
      refine J_get (pc := 56) (c := 2) (.ref 77) rfl in_X3 8 (by decide) q1115 rfl (fun h => sh_k1 h 52 rfl) (fun h _ => fv_ref (Or.inr ⟨_, rfl⟩) (sh_r h 55 rfl)) dX3_road_56 ?_
      refine J_iconst (pc := 59) 4 dX3_road_59 (by decide) ?_
      refine J_iload_n (pc := 60) dX3_road_60 rfl ?_
      refine J_imul (pc := 61) dX3_road_61 ?_
      refine J_iconst (pc := 62) 2 dX3_road_62 (by decide) ?_
      refine J_iadd (pc := 63) dX3_road_63 ?_
      refine J_ck (fun h2 => ?_)
      refine J_iald (pc := 64) (a := 77) (fun h => sh_a h 57 rfl h2) dX3_road_64 ?_
      refine J_iload_n (pc := 65) dX3_road_65 rfl ?_
      refine J_icmp_lt (pc := 66) 71 dX3_road_66 rfl (fun h => if_pos h) (fun h => if_neg h) (fun _ => ?_) (fun _ => ?_)
      · refine J_iincL (pc := 71) (n := 1) (by decide) dX3_road_71 rfl (by decide) (fun v5 => ?_)
        refine J_goto (pc := 74) 47 dX3_road_74 rfl ?_
        exact J_sub (A := [some (.ref 72), some (.int c1), some (.int v5), none]) ⟨rfl, ⟨rfl, ⟨rfl, trivial⟩⟩⟩ (ih v5 M5)
      · refine J_iconst (pc := 69) (-1) dX3_road_69 (by decide) ?_
        exact J_iret (pc := 70) dX3_road_70

def m_road_L91 (c2 : Int32) (k113 : PM → Option (Int32 × PM)) : Nat → Int32 → PM → Option (Int32 × PM)
  | 0, _, _ => none
  | n + 1, v8, M8 =>
    if 30 ≤ v8 then (k113 M8)
    else (ck (14 + v8) 44 <|
    lt (M8.si 73 (ix (14 + v8)) 0) fun M9 =>
    lt (v8 + 1) fun v9 =>
    m_road_L91 c2 k113 n v9 M9)

set_option maxHeartbeats 4000000 in
theorem t_m_road_L91 (G : JG) (c2 : Int32) (k113 : PM → Option (Int32 × PM)) (hk113 : ∀ Me, T_m_road G  Me 113 [some (.ref 72), none, some (.int c2), none] [] (k113 Me)) : ∀ (n : Nat) (v8 : Int32) (M8 : PM), T_m_road G  M8 91 [some (.ref 72), none, some (.int c2), some (.int v8)] [] (m_road_L91 c2 k113 n v8 M8) := by
  intro n
  induction n with
  | zero =>
    intro v8 M8
    exact J_none
  | succ n ih =>
    intro v8 M8
    rw [m_road_L91]
    refine J_iload_n (pc := 91) dX3_road_91 rfl ?_
    refine J_bipush (pc := 92) 30 dX3_road_92 (by decide) ?_
    refine J_icmp_ge (pc := 94) 113 dX3_road_94 rfl (fun h => if_pos h) (fun h => if_neg h) (fun _ => ?_) (fun _ => ?_)
    · exact J_sub (A := [some (.ref 72), none, some (.int c2), none]) ⟨rfl, ⟨rfl, trivial⟩⟩ (hk113 M8)
    · refine J_aload_n (pc := 97) dX3_road_97 rfl ?_
      refine J_get (pc := 98) (c := 2) (.ref 73) rfl in_X3 0 (by decide) q1107 rfl (fun h => sh_k1 h 52 rfl) (fun h _ => fv_ref (Or.inr ⟨_, rfl⟩) (sh_r h 51 rfl)) dX3_road_98 ?_
      refine J_bipush (pc := 101) 14 dX3_road_101 (by decide) ?_
      refine J_iload_n (pc := 103) dX3_road_103 rfl ?_
      refine J_iadd (pc := 104) dX3_road_104 ?_
      refine J_iconst (pc := 105) 0 dX3_road_105 (by decide) ?_
      refine J_ck (fun h3 => ?_)
      refine J_iast (pc := 106) (a := 73) (fun h => sh_a h 53 rfl h3) (fun h => Sh_si h) dX3_road_106 ?_
      refine J_ltM (fun M9 => ?_)
      refine J_iincL (pc := 107) (n := 1) (by decide) dX3_road_107 rfl (by decide) (fun v9 => ?_)
      refine J_goto (pc := 110) 91 dX3_road_110 rfl ?_
      exact J_sub (A := [some (.ref 72), none, some (.int c2), some (.int v9)]) ⟨rfl, ⟨rfl, ⟨rfl, trivial⟩⟩⟩ (ih v9 M9)

def m_road (p1 : Int32) (M : PM) : Option (Int32 × PM) :=
    lt (M.si 72 13 0) fun M1 =>
    bd (m_in p1 1 6 M1) fun v1 M2 =>
    if v1 = 0 then (some ((-1), M2))
    else (m_road_L19 p1 (fun (M4 : PM) =>
    m_road_L47 p1 (fun (M6 : PM) =>
    lt (M6.i 72 1) fun v6 =>
    lt (M6.si 72 1 p1) fun M7 =>
    lt (5 * p1) fun v7 =>
    m_road_L91 v6 (fun (M10 : PM) =>
    lt (M10.si 72 29 0) fun M11 =>
    lt (M11.si 72 52 ((M11.i 72 52) + 1)) fun M12 =>
    some (v6, M12)) FU v7 M7) FU 0 M4) FU 0 M2)

set_option maxHeartbeats 4000000 in
theorem t_m_road (G : JG) (p1 : Int32) (M : PM) : T_m_road G  M 0 (ent [.ref 72, .int p1] 4) [] (m_road p1 M) := by
  unfold m_road
  refine J_aload_n (pc := 0) dX3_road_0 rfl ?_
  refine J_iconst (pc := 1) 0 dX3_road_1 (by decide) ?_
  refine J_put (pc := 2) (a := 72) (v := .int 0) (M' := M.si 72 13 0) (c := 2) rfl in_X3 tyX3_ok fnX3 13 (by decide) q1120 rfl (Or.inl rfl) (fun h => sh_k1 h 52 rfl) (fun _ => rfl) (fun _ => rfl) ⟨⟨rfl, rfl⟩, rfl⟩ (fun _ hb => up2_same hb) (fun _ _ => rfl) (fun _ _ => rfl) (put_i (fun _ _ _ => rfl)) (fun h => Sh_si h) dX3_road_2 ?_
  refine J_ltM (fun M1 => ?_)
  refine J_iload_n (pc := 5) dX3_road_5 rfl ?_
  refine J_iconst (pc := 6) 1 dX3_road_6 (by decide) ?_
  refine J_bipush (pc := 7) 6 dX3_road_7 (by decide) ?_
  refine J_callS (pc := 9) (n := 3) (vs := [.int p1, .int 1, .int 6]) (fun l => C_m_in l p1 1 6 M1) (lw_S q1289 q1290 q118 q1291) nmh_X3_in rfl (by omega) (by decide) rfl (Nat.le_of_ble_eq_true rfl) dX3_road_9 (fun v1 M2 => ?_)
  refine J_if_ne (pc := 12) 17 dX3_road_12 rfl (fun h => if_neg h) (fun h => if_pos h) (fun _ => ?_) (fun _ => ?_)
  · refine J_iconst (pc := 17) 0 dX3_road_17 (by decide) ?_
    refine J_istore_n (pc := 18) dX3_road_18 (by decide) ?_
    refine J_sub (A := [some (.ref 72), some (.int p1), some (.int 0), none]) ⟨rfl, ⟨rfl, ⟨rfl, trivial⟩⟩⟩ (t_m_road_L19 G p1 _ ?_ FU 0 M2)
    · intro M4
      refine J_iconst (pc := 45) 0 dX3_road_45 (by decide) ?_
      refine J_istore_n (pc := 46) dX3_road_46 (by decide) ?_
      refine J_sub (A := [some (.ref 72), some (.int p1), some (.int 0), none]) ⟨rfl, ⟨rfl, ⟨rfl, trivial⟩⟩⟩ (t_m_road_L47 G p1 _ ?_ FU 0 M4)
      · intro M6
        refine J_aload_n (pc := 77) dX3_road_77 rfl ?_
        refine J_get (pc := 78) (c := 2) (.int (M6.i 72 1)) rfl in_X3 1 (by decide) q1108 rfl (fun h => sh_k1 h 52 rfl) (fun _ _ => rfl) dX3_road_78 ?_
        refine J_lt (β := Int32) (v := (M6.i 72 1)) (L := fun _ => _) (S := fun v6 => [.int v6]) (fun v6 => ?_)
        refine J_istore_n (pc := 81) dX3_road_81 (by decide) ?_
        refine J_aload_n (pc := 82) dX3_road_82 rfl ?_
        refine J_iload_n (pc := 83) dX3_road_83 rfl ?_
        refine J_put (pc := 84) (a := 72) (v := .int p1) (M' := M6.si 72 1 p1) (c := 2) rfl in_X3 tyX3_ok fnX3 1 (by decide) q1108 rfl (Or.inl rfl) (fun h => sh_k1 h 52 rfl) (fun _ => rfl) (fun _ => rfl) ⟨⟨rfl, rfl⟩, rfl⟩ (fun _ hb => up2_same hb) (fun _ _ => rfl) (fun _ _ => rfl) (put_i (fun _ _ _ => rfl)) (fun h => Sh_si h) dX3_road_84 ?_
        refine J_ltM (fun M7 => ?_)
        refine J_iconst (pc := 87) 5 dX3_road_87 (by decide) ?_
        refine J_iload_n (pc := 88) dX3_road_88 rfl ?_
        refine J_imul (pc := 89) dX3_road_89 ?_
        refine J_lt (β := Int32) (v := (5 * p1)) (L := fun _ => _) (S := fun v7 => [.int v7]) (fun v7 => ?_)
        refine J_istore_n (pc := 90) dX3_road_90 (by decide) ?_
        refine J_sub (A := [some (.ref 72), none, some (.int v6), some (.int v7)]) ⟨rfl, ⟨rfl, ⟨rfl, trivial⟩⟩⟩ (t_m_road_L91 G v6 _ ?_ FU v7 M7)
        · intro M10
          refine J_aload_n (pc := 113) dX3_road_113 rfl ?_
          refine J_iconst (pc := 114) 0 dX3_road_114 (by decide) ?_
          refine J_put (pc := 115) (a := 72) (v := .int 0) (M' := M10.si 72 29 0) (c := 2) rfl in_X3 tyX3_ok fnX3 29 (by decide) q1136 rfl (Or.inl rfl) (fun h => sh_k1 h 52 rfl) (fun _ => rfl) (fun _ => rfl) ⟨⟨rfl, rfl⟩, rfl⟩ (fun _ hb => up2_same hb) (fun _ _ => rfl) (fun _ _ => rfl) (put_i (fun _ _ _ => rfl)) (fun h => Sh_si h) dX3_road_115 ?_
          refine J_ltM (fun M11 => ?_)
          refine J_aload_n (pc := 118) dX3_road_118 rfl ?_
          refine J_dup (pc := 119) dX3_road_119 rfl ?_
          refine J_get (pc := 120) (c := 2) (.int (M11.i 72 52)) rfl in_X3 52 (by decide) q1159 rfl (fun h => sh_k1 h 52 rfl) (fun _ _ => rfl) dX3_road_120 ?_
          refine J_iconst (pc := 123) 1 dX3_road_123 (by decide) ?_
          refine J_iadd (pc := 124) dX3_road_124 ?_
          refine J_put (pc := 125) (a := 72) (v := .int ((M11.i 72 52) + 1)) (M' := M11.si 72 52 ((M11.i 72 52) + 1)) (c := 2) rfl in_X3 tyX3_ok fnX3 52 (by decide) q1159 rfl (Or.inl rfl) (fun h => sh_k1 h 52 rfl) (fun _ => rfl) (fun _ => rfl) ⟨⟨rfl, rfl⟩, rfl⟩ (fun _ hb => up2_same hb) (fun _ _ => rfl) (fun _ _ => rfl) (put_i (fun _ _ _ => rfl)) (fun h => Sh_si h) dX3_road_125 ?_
          refine J_ltM (fun M12 => ?_)
          refine J_iload_n (pc := 128) dX3_road_128 rfl ?_
          exact J_iret (pc := 129) dX3_road_129
  · refine J_iconst (pc := 15) (-1) dX3_road_15 (by decide) ?_
    exact J_iret (pc := 16) dX3_road_16

theorem C_m_road (l : Launch) (p1 : Int32) (M : PM) : Ctr l Sh yX3_road cX3_road 4 (some .int) 2 rvI [.ref 72, .int p1] M (m_road p1 M) := Ctr.of (by decide +kernel) (Nat.le_of_ble_eq_true rfl) (fun G => t_m_road G p1 M)

abbrev T_m_begin (G : JG) (M : PM) (pc : Nat) (L : List (Option Value)) (S : List Value) (o : Option (Unit × PM)) : Prop := JJ G cX3_begin yX3_begin 4 1 none Sh (finR G Sh rvU) M pc L S o
def m_begin (p1 : Nat) (p2 : Int32) (p3 : Int32) (M : PM) : Option (Unit × PM) :=
    lt (M.sr 72 14 (some p1)) fun M1 =>
    lt (M1.si 72 15 p2) fun M2 =>
    lt (M2.si 72 16 p3) fun M3 =>
    lt (M3.si 72 17 0) fun M4 =>
    lt (M4.si 72 18 (-1)) fun M5 =>
    some ((), M5)

set_option maxHeartbeats 4000000 in
theorem t_m_begin (G : JG) (p1 : Nat) (p2 : Int32) (p3 : Int32) (M : PM) : T_m_begin G  M 0 (ent [.ref 72, .ref p1, .int p2, .int p3] 4) [] (m_begin p1 p2 p3 M) := by
  unfold m_begin
  refine J_aload_n (pc := 0) dX3_begin_0 rfl ?_
  refine J_aload_n (pc := 1) dX3_begin_1 rfl ?_
  refine J_put (pc := 2) (a := 72) (v := va_rf (some p1)) (M' := M.sr 72 14 (some p1)) (c := 2) rfl in_X3 tyX3_ok fnX3 14 (by decide) q1121 rfl (Or.inl rfl) (fun h => sh_k1 h 52 rfl) (fun ad => (nrw_r _ (Or.inr ⟨_, rfl⟩) (some p1) ad).1) (fun ad => (nrw_r _ (Or.inr ⟨_, rfl⟩) (some p1) ad).2) ⟨⟨rfl, rfl⟩, rfl⟩ (fun _ _ => rfl) (fun _ _ => rfl) (fun _ hb => up2_same hb) (put_r (fun _ _ _ => rfl)) (fun h => Sh_sr h (by decide)) dX3_begin_2 ?_
  refine J_ltM (fun M1 => ?_)
  refine J_aload_n (pc := 5) dX3_begin_5 rfl ?_
  refine J_iload_n (pc := 6) dX3_begin_6 rfl ?_
  refine J_put (pc := 7) (a := 72) (v := .int p2) (M' := M1.si 72 15 p2) (c := 2) rfl in_X3 tyX3_ok fnX3 15 (by decide) q1122 rfl (Or.inl rfl) (fun h => sh_k1 h 52 rfl) (fun _ => rfl) (fun _ => rfl) ⟨⟨rfl, rfl⟩, rfl⟩ (fun _ hb => up2_same hb) (fun _ _ => rfl) (fun _ _ => rfl) (put_i (fun _ _ _ => rfl)) (fun h => Sh_si h) dX3_begin_7 ?_
  refine J_ltM (fun M2 => ?_)
  refine J_aload_n (pc := 10) dX3_begin_10 rfl ?_
  refine J_iload_n (pc := 11) dX3_begin_11 rfl ?_
  refine J_put (pc := 12) (a := 72) (v := .int p3) (M' := M2.si 72 16 p3) (c := 2) rfl in_X3 tyX3_ok fnX3 16 (by decide) q1123 rfl (Or.inl rfl) (fun h => sh_k1 h 52 rfl) (fun _ => rfl) (fun _ => rfl) ⟨⟨rfl, rfl⟩, rfl⟩ (fun _ hb => up2_same hb) (fun _ _ => rfl) (fun _ _ => rfl) (put_i (fun _ _ _ => rfl)) (fun h => Sh_si h) dX3_begin_12 ?_
  refine J_ltM (fun M3 => ?_)
  refine J_aload_n (pc := 15) dX3_begin_15 rfl ?_
  refine J_iconst (pc := 16) 0 dX3_begin_16 (by decide) ?_
  refine J_put (pc := 17) (a := 72) (v := .int 0) (M' := M3.si 72 17 0) (c := 2) rfl in_X3 tyX3_ok fnX3 17 (by decide) q1124 rfl (Or.inl rfl) (fun h => sh_k1 h 52 rfl) (fun _ => rfl) (fun _ => rfl) ⟨⟨rfl, rfl⟩, rfl⟩ (fun _ hb => up2_same hb) (fun _ _ => rfl) (fun _ _ => rfl) (put_i (fun _ _ _ => rfl)) (fun h => Sh_si h) dX3_begin_17 ?_
  refine J_ltM (fun M4 => ?_)
  refine J_aload_n (pc := 20) dX3_begin_20 rfl ?_
  refine J_iconst (pc := 21) (-1) dX3_begin_21 (by decide) ?_
  refine J_put (pc := 22) (a := 72) (v := .int (-1)) (M' := M4.si 72 18 (-1)) (c := 2) rfl in_X3 tyX3_ok fnX3 18 (by decide) q1125 rfl (Or.inl rfl) (fun h => sh_k1 h 52 rfl) (fun _ => rfl) (fun _ => rfl) ⟨⟨rfl, rfl⟩, rfl⟩ (fun _ hb => up2_same hb) (fun _ _ => rfl) (fun _ _ => rfl) (put_i (fun _ _ _ => rfl)) (fun h => Sh_si h) dX3_begin_22 ?_
  refine J_ltM (fun M5 => ?_)
  exact J_ret (pc := 25) dX3_begin_25

theorem C_m_begin (l : Launch) (p1 : Nat) (p2 : Int32) (p3 : Int32) (M : PM) : Ctr l Sh yX3_begin cX3_begin 4 none 1 rvU [.ref 72, .ref p1, .int p2, .int p3] M (m_begin p1 p2 p3 M) := Ctr.of (by decide +kernel) (Nat.le_of_ble_eq_true rfl) (fun G => t_m_begin G p1 p2 p3 M)

abbrev T_m_beginText (G : JG) (M : PM) (pc : Nat) (L : List (Option Value)) (S : List Value) (o : Option (Unit × PM)) : Prop := JJ G cX3_beginText yX3_beginText 2 2 none Sh (finR G Sh rvU) M pc L S o
def m_beginText (p1 : Int32) (M : PM) : Option (Unit × PM) :=
    bd (m_begin 78 (M.i 72 10) p1 M) fun _ M1 =>
    lt (M1.si 72 10 0) fun M2 =>
    some ((), M2)

set_option maxHeartbeats 4000000 in
theorem t_m_beginText (G : JG) (p1 : Int32) (M : PM) : T_m_beginText G  M 0 (ent [.ref 72, .int p1] 2) [] (m_beginText p1 M) := by
  unfold m_beginText
  refine J_aload_n (pc := 0) dX3_beginText_0 rfl ?_
  refine J_aload_n (pc := 1) dX3_beginText_1 rfl ?_
  refine J_get (pc := 2) (c := 2) (.ref 78) rfl in_X3 9 (by decide) q1116 rfl (fun h => sh_k1 h 52 rfl) (fun h _ => fv_ref (Or.inr ⟨_, rfl⟩) (sh_r h 56 rfl)) dX3_beginText_2 ?_
  refine J_aload_n (pc := 5) dX3_beginText_5 rfl ?_
  refine J_get (pc := 6) (c := 2) (.int (M.i 72 10)) rfl in_X3 10 (by decide) q1117 rfl (fun h => sh_k1 h 52 rfl) (fun _ _ => rfl) dX3_beginText_6 ?_
  refine J_iload_n (pc := 9) dX3_beginText_9 rfl ?_
  refine J_callV (pc := 10) (n := 3) (b := 72) (vs := [.ref 78, .int (M.i 72 10), .int p1]) (ci := 2) (fun l => C_m_begin l 78 (M.i 72 10) p1 M) (lw_V q1304 q1306 qs61 q118 q1307) nmv_X3_begin rfl (by omega) (by decide) rfl (fun h => sh_k1 h 52 rfl) rfl (Nat.le_of_ble_eq_true rfl) dX3_beginText_10 (fun _ M1 => ?_)
  refine J_aload_n (pc := 13) dX3_beginText_13 rfl ?_
  refine J_iconst (pc := 14) 0 dX3_beginText_14 (by decide) ?_
  refine J_put (pc := 15) (a := 72) (v := .int 0) (M' := M1.si 72 10 0) (c := 2) rfl in_X3 tyX3_ok fnX3 10 (by decide) q1117 rfl (Or.inl rfl) (fun h => sh_k1 h 52 rfl) (fun _ => rfl) (fun _ => rfl) ⟨⟨rfl, rfl⟩, rfl⟩ (fun _ hb => up2_same hb) (fun _ _ => rfl) (fun _ _ => rfl) (put_i (fun _ _ _ => rfl)) (fun h => Sh_si h) dX3_beginText_15 ?_
  refine J_ltM (fun M2 => ?_)
  exact J_ret (pc := 18) dX3_beginText_18

theorem C_m_beginText (l : Launch) (p1 : Int32) (M : PM) : Ctr l Sh yX3_beginText cX3_beginText 2 none 2 rvU [.ref 72, .int p1] M (m_beginText p1 M) := Ctr.of (by decide +kernel) (Nat.le_of_ble_eq_true rfl) (fun G => t_m_beginText G p1 M)

abbrev T_m_fine (G : JG) (M : PM) (pc : Nat) (L : List (Option Value)) (S : List Value) (o : Option (Int32 × PM)) : Prop := JJ G cX3_fine yX3_fine 1 1 (some .boolean) Sh (finR G Sh rvI) M pc L S o
def m_fine (M : PM) : Option (Int32 × PM) :=
    if (M.i 72 18) = (-1) then (some (1, M))
    else (some (0, M))

set_option maxHeartbeats 4000000 in
theorem t_m_fine (G : JG) (M : PM) : T_m_fine G  M 0 (ent [.ref 72] 1) [] (m_fine M) := by
  unfold m_fine
  refine J_aload_n (pc := 0) dX3_fine_0 rfl ?_
  refine J_get (pc := 1) (c := 2) (.int (M.i 72 18)) rfl in_X3 18 (by decide) q1125 rfl (fun h => sh_k1 h 52 rfl) (fun _ _ => rfl) dX3_fine_1 ?_
  refine J_iconst (pc := 4) (-1) dX3_fine_4 (by decide) ?_
  refine J_icmp_ne (pc := 5) 12 dX3_fine_5 rfl (fun h => if_neg h) (fun h => if_pos h) (fun _ => ?_) (fun _ => ?_)
  · refine J_iconst (pc := 12) 0 dX3_fine_12 (by decide) ?_
    exact J_zret (pc := 13) rfl dX3_fine_13
  · refine J_iconst (pc := 8) 1 dX3_fine_8 (by decide) ?_
    refine J_goto (pc := 9) 13 dX3_fine_9 rfl ?_
    exact J_zret (pc := 13) rfl dX3_fine_13

theorem C_m_fine (l : Launch) (M : PM) : Ctr l Sh yX3_fine cX3_fine 1 (some .boolean) 1 rvI [.ref 72] M (m_fine M) := Ctr.of (by decide +kernel) (Nat.le_of_ble_eq_true rfl) (fun G => t_m_fine G M)

abbrev T_m_fault (G : JG) (M : PM) (pc : Nat) (L : List (Option Value)) (S : List Value) (o : Option (Unit × PM)) : Prop := JJ G cX3_fault yX3_fault 2 2 none Sh (finR G Sh rvU) M pc L S o
def m_fault (p1 : Int32) (M : PM) : Option (Unit × PM) :=
    bd (m_fine M) fun v1 M1 =>
    if v1 = 0 then (some ((), M1))
    else (lt (M1.si 72 18 p1) fun M2 =>
    some ((), M2))

set_option maxHeartbeats 4000000 in
theorem t_m_fault (G : JG) (p1 : Int32) (M : PM) : T_m_fault G  M 0 (ent [.ref 72, .int p1] 2) [] (m_fault p1 M) := by
  unfold m_fault
  refine J_aload_n (pc := 0) dX3_fault_0 rfl ?_
  refine J_callV (pc := 1) (n := 0) (b := 72) (vs := []) (ci := 2) (fun l => C_m_fine l  M) (lw_V q1308 q1310 qs62 q118 q1311) nmv_X3_fine rfl (by omega) (by decide) rfl (fun h => sh_k1 h 52 rfl) rfl (Nat.le_of_ble_eq_true rfl) dX3_fault_1 (fun v1 M1 => ?_)
  refine J_if_eq (pc := 4) 12 dX3_fault_4 rfl (fun h => if_pos h) (fun h => if_neg h) (fun _ => ?_) (fun _ => ?_)
  · exact J_ret (pc := 12) dX3_fault_12
  · refine J_aload_n (pc := 7) dX3_fault_7 rfl ?_
    refine J_iload_n (pc := 8) dX3_fault_8 rfl ?_
    refine J_put (pc := 9) (a := 72) (v := .int p1) (M' := M1.si 72 18 p1) (c := 2) rfl in_X3 tyX3_ok fnX3 18 (by decide) q1125 rfl (Or.inl rfl) (fun h => sh_k1 h 52 rfl) (fun _ => rfl) (fun _ => rfl) ⟨⟨rfl, rfl⟩, rfl⟩ (fun _ hb => up2_same hb) (fun _ _ => rfl) (fun _ _ => rfl) (put_i (fun _ _ _ => rfl)) (fun h => Sh_si h) dX3_fault_9 ?_
    refine J_ltM (fun M2 => ?_)
    exact J_ret (pc := 12) dX3_fault_12

theorem C_m_fault (l : Launch) (p1 : Int32) (M : PM) : Ctr l Sh yX3_fault cX3_fault 2 none 2 rvU [.ref 72, .int p1] M (m_fault p1 M) := Ctr.of (by decide +kernel) (Nat.le_of_ble_eq_true rfl) (fun G => t_m_fault G p1 M)

abbrev T_m_here (G : JG) (M : PM) (pc : Nat) (L : List (Option Value)) (S : List Value) (o : Option (Int32 × PM)) : Prop := JJ G cX3_here yX3_here 1 1 (some .int) Sh (finR G Sh rvI) M pc L S o
def m_here (M : PM) : Option (Int32 × PM) :=
    if (M.i 72 15) ≤ (M.i 72 17) then (some ((-1), M))
    else (if (M.i 72 16) ≤ (M.i 72 17) then (some ((-1), M))
    else (lt (M.r 72 14) fun r1 =>
    rf r1 fun a1 =>
    cka M a1 21 (M.i 72 17) <|
    some (((M.i a1 (ix (M.i 72 17))) &&& 255), M)))

set_option maxHeartbeats 4000000 in
theorem t_m_here (G : JG) (M : PM) : T_m_here G  M 0 (ent [.ref 72] 1) [] (m_here M) := by
  unfold m_here
  refine J_aload_n (pc := 0) dX3_here_0 rfl ?_
  refine J_get (pc := 1) (c := 2) (.int (M.i 72 17)) rfl in_X3 17 (by decide) q1124 rfl (fun h => sh_k1 h 52 rfl) (fun _ _ => rfl) dX3_here_1 ?_
  refine J_aload_n (pc := 4) dX3_here_4 rfl ?_
  refine J_get (pc := 5) (c := 2) (.int (M.i 72 15)) rfl in_X3 15 (by decide) q1122 rfl (fun h => sh_k1 h 52 rfl) (fun _ _ => rfl) dX3_here_5 ?_
  refine J_icmp_ge (pc := 8) 38 dX3_here_8 rfl (fun h => if_pos h) (fun h => if_neg h) (fun _ => ?_) (fun _ => ?_)
  · refine J_iconst (pc := 38) (-1) dX3_here_38 (by decide) ?_
    exact J_iret (pc := 39) dX3_here_39
  · refine J_aload_n (pc := 11) dX3_here_11 rfl ?_
    refine J_get (pc := 12) (c := 2) (.int (M.i 72 17)) rfl in_X3 17 (by decide) q1124 rfl (fun h => sh_k1 h 52 rfl) (fun _ _ => rfl) dX3_here_12 ?_
    refine J_aload_n (pc := 15) dX3_here_15 rfl ?_
    refine J_get (pc := 16) (c := 2) (.int (M.i 72 16)) rfl in_X3 16 (by decide) q1123 rfl (fun h => sh_k1 h 52 rfl) (fun _ _ => rfl) dX3_here_16 ?_
    refine J_icmp_ge (pc := 19) 38 dX3_here_19 rfl (fun h => if_pos h) (fun h => if_neg h) (fun _ => ?_) (fun _ => ?_)
    · refine J_iconst (pc := 38) (-1) dX3_here_38 (by decide) ?_
      exact J_iret (pc := 39) dX3_here_39
    · refine J_aload_n (pc := 22) dX3_here_22 rfl ?_
      refine J_getO (pc := 23) (c := 2) rfl in_X3 14 (by decide) q1121 rfl (fun h => sh_k1 h 52 rfl) (fun _ _ => fv_rf (Or.inr ⟨_, rfl⟩)) dX3_here_23 (fun r1 => ?_)
      refine J_aload_n (pc := 26) dX3_here_26 rfl ?_
      refine J_get (pc := 27) (c := 2) (.int (M.i 72 17)) rfl in_X3 17 (by decide) q1124 rfl (fun h => sh_k1 h 52 rfl) (fun _ _ => rfl) dX3_here_27 ?_
      refine J_rfe (fun a1 ea1 => ?_)
      subst ea1
      refine J_cka (fun h1 h12 => ?_)
      refine J_bald (pc := 30) (a := a1) (fun _ => ⟨h1, h12⟩) dX3_here_30 ?_
      refine J_sipush (pc := 31) 255 dX3_here_31 (by decide) ?_
      refine J_iand (pc := 34) dX3_here_34 ?_
      refine J_goto (pc := 35) 39 dX3_here_35 rfl ?_
      exact J_iret (pc := 39) dX3_here_39

theorem C_m_here (l : Launch) (M : PM) : Ctr l Sh yX3_here cX3_here 1 (some .int) 1 rvI [.ref 72] M (m_here M) := Ctr.of (by decide +kernel) (Nat.le_of_ble_eq_true rfl) (fun G => t_m_here G M)

abbrev T_m_passes (G : JG) (M : PM) (pc : Nat) (L : List (Option Value)) (S : List Value) (o : Option (Int32 × PM)) : Prop := JJ G cX3_passes yX3_passes 2 2 (some .boolean) Sh (finR G Sh rvI) M pc L S o
def m_passes (p1 : Int32) (M : PM) : Option (Int32 × PM) :=
    bd (m_fine M) fun v1 M1 =>
    if v1 = 0 then (some (0, M1))
    else (bd (m_here M1) fun v2 M2 =>
    if v2 = p1 then (lt (M2.si 72 17 ((M2.i 72 17) + 1)) fun M3 =>
    some (1, M3))
    else (some (0, M2)))

set_option maxHeartbeats 4000000 in
theorem t_m_passes (G : JG) (p1 : Int32) (M : PM) : T_m_passes G  M 0 (ent [.ref 72, .int p1] 2) [] (m_passes p1 M) := by
  unfold m_passes
  refine J_aload_n (pc := 0) dX3_passes_0 rfl ?_
  refine J_callV (pc := 1) (n := 0) (b := 72) (vs := []) (ci := 2) (fun l => C_m_fine l  M) (lw_V q1308 q1310 qs62 q118 q1311) nmv_X3_fine rfl (by omega) (by decide) rfl (fun h => sh_k1 h 52 rfl) rfl (Nat.le_of_ble_eq_true rfl) dX3_passes_1 (fun v1 M1 => ?_)
  refine J_if_eq (pc := 4) 15 dX3_passes_4 rfl (fun h => if_pos h) (fun h => if_neg h) (fun _ => ?_) (fun _ => ?_)
  · refine J_iconst (pc := 15) 0 dX3_passes_15 (by decide) ?_
    exact J_zret (pc := 16) rfl dX3_passes_16
  · refine J_aload_n (pc := 7) dX3_passes_7 rfl ?_
    refine J_callV (pc := 8) (n := 0) (b := 72) (vs := []) (ci := 2) (fun l => C_m_here l  M1) (lw_V q1324 q1326 qs66 q118 q1327) nmv_X3_here rfl (by omega) (by decide) rfl (fun h => sh_k1 h 52 rfl) rfl (Nat.le_of_ble_eq_true rfl) dX3_passes_8 (fun v2 M2 => ?_)
    refine J_iload_n (pc := 11) dX3_passes_11 rfl ?_
    refine J_icmp_eq (pc := 12) 17 dX3_passes_12 rfl (fun h => if_pos h) (fun h => if_neg h) (fun _ => ?_) (fun _ => ?_)
    · refine J_aload_n (pc := 17) dX3_passes_17 rfl ?_
      refine J_dup (pc := 18) dX3_passes_18 rfl ?_
      refine J_get (pc := 19) (c := 2) (.int (M2.i 72 17)) rfl in_X3 17 (by decide) q1124 rfl (fun h => sh_k1 h 52 rfl) (fun _ _ => rfl) dX3_passes_19 ?_
      refine J_iconst (pc := 22) 1 dX3_passes_22 (by decide) ?_
      refine J_iadd (pc := 23) dX3_passes_23 ?_
      refine J_put (pc := 24) (a := 72) (v := .int ((M2.i 72 17) + 1)) (M' := M2.si 72 17 ((M2.i 72 17) + 1)) (c := 2) rfl in_X3 tyX3_ok fnX3 17 (by decide) q1124 rfl (Or.inl rfl) (fun h => sh_k1 h 52 rfl) (fun _ => rfl) (fun _ => rfl) ⟨⟨rfl, rfl⟩, rfl⟩ (fun _ hb => up2_same hb) (fun _ _ => rfl) (fun _ _ => rfl) (put_i (fun _ _ _ => rfl)) (fun h => Sh_si h) dX3_passes_24 ?_
      refine J_ltM (fun M3 => ?_)
      refine J_iconst (pc := 27) 1 dX3_passes_27 (by decide) ?_
      exact J_zret (pc := 28) rfl dX3_passes_28
    · refine J_iconst (pc := 15) 0 dX3_passes_15 (by decide) ?_
      exact J_zret (pc := 16) rfl dX3_passes_16

theorem C_m_passes (l : Launch) (p1 : Int32) (M : PM) : Ctr l Sh yX3_passes cX3_passes 2 (some .boolean) 2 rvI [.ref 72, .int p1] M (m_passes p1 M) := Ctr.of (by decide +kernel) (Nat.le_of_ble_eq_true rfl) (fun G => t_m_passes G p1 M)

abbrev T_m_oneOf (G : JG) (M : PM) (pc : Nat) (L : List (Option Value)) (S : List Value) (o : Option (Int32 × PM)) : Prop := JJ G cX3_oneOf yX3_oneOf 3 3 (some .int) Sh (finR G Sh rvI) M pc L S o
def m_oneOf (p1 : Int32) (p2 : Int32) (M : PM) : Option (Int32 × PM) :=
    bd (m_fine M) fun v1 M1 =>
    if v1 = 0 then (some (0, M1))
    else (bd (m_here M1) fun v2 M2 =>
    bd (m_in v2 p1 ((p1 + p2) - 1) M2) fun v3 M3 =>
    if v3 = 0 then (bd (m_fault (M3.i 72 17) M3) fun _ M5 =>
    some (0, M5))
    else (lt (M3.si 72 17 ((M3.i 72 17) + 1)) fun M4 =>
    lt (M4.r 72 14) fun r1 =>
    rf r1 fun a1 =>
    cka M4 a1 21 ((M4.i 72 17) - 1) <|
    some (((M4.i a1 (ix ((M4.i 72 17) - 1))) - p1), M4)))

set_option maxHeartbeats 4000000 in
theorem t_m_oneOf (G : JG) (p1 : Int32) (p2 : Int32) (M : PM) : T_m_oneOf G  M 0 (ent [.ref 72, .int p1, .int p2] 3) [] (m_oneOf p1 p2 M) := by
  unfold m_oneOf
  refine J_aload_n (pc := 0) dX3_oneOf_0 rfl ?_
  refine J_callV (pc := 1) (n := 0) (b := 72) (vs := []) (ci := 2) (fun l => C_m_fine l  M) (lw_V q1308 q1310 qs62 q118 q1311) nmv_X3_fine rfl (by omega) (by decide) rfl (fun h => sh_k1 h 52 rfl) rfl (Nat.le_of_ble_eq_true rfl) dX3_oneOf_1 (fun v1 M1 => ?_)
  refine J_if_ne (pc := 4) 9 dX3_oneOf_4 rfl (fun h => if_neg h) (fun h => if_pos h) (fun _ => ?_) (fun _ => ?_)
  · refine J_aload_n (pc := 9) dX3_oneOf_9 rfl ?_
    refine J_callV (pc := 10) (n := 0) (b := 72) (vs := []) (ci := 2) (fun l => C_m_here l  M1) (lw_V q1324 q1326 qs66 q118 q1327) nmv_X3_here rfl (by omega) (by decide) rfl (fun h => sh_k1 h 52 rfl) rfl (Nat.le_of_ble_eq_true rfl) dX3_oneOf_10 (fun v2 M2 => ?_)
    refine J_iload_n (pc := 13) dX3_oneOf_13 rfl ?_
    refine J_iload_n (pc := 14) dX3_oneOf_14 rfl ?_
    refine J_iload_n (pc := 15) dX3_oneOf_15 rfl ?_
    refine J_iadd (pc := 16) dX3_oneOf_16 ?_
    refine J_iconst (pc := 17) 1 dX3_oneOf_17 (by decide) ?_
    refine J_isub (pc := 18) dX3_oneOf_18 ?_
    refine J_callS (pc := 19) (n := 3) (vs := [.int v2, .int p1, .int ((p1 + p2) - 1)]) (fun l => C_m_in l v2 p1 ((p1 + p2) - 1) M2) (lw_S q1289 q1290 q118 q1291) nmh_X3_in rfl (by omega) (by decide) rfl (Nat.le_of_ble_eq_true rfl) dX3_oneOf_19 (fun v3 M3 => ?_)
    refine J_if_ne (pc := 22) 35 dX3_oneOf_22 rfl (fun h => if_neg h) (fun h => if_pos h) (fun _ => ?_) (fun _ => ?_)
    · refine J_aload_n (pc := 35) dX3_oneOf_35 rfl ?_
      refine J_dup (pc := 36) dX3_oneOf_36 rfl ?_
      refine J_get (pc := 37) (c := 2) (.int (M3.i 72 17)) rfl in_X3 17 (by decide) q1124 rfl (fun h => sh_k1 h 52 rfl) (fun _ _ => rfl) dX3_oneOf_37 ?_
      refine J_iconst (pc := 40) 1 dX3_oneOf_40 (by decide) ?_
      refine J_iadd (pc := 41) dX3_oneOf_41 ?_
      refine J_put (pc := 42) (a := 72) (v := .int ((M3.i 72 17) + 1)) (M' := M3.si 72 17 ((M3.i 72 17) + 1)) (c := 2) rfl in_X3 tyX3_ok fnX3 17 (by decide) q1124 rfl (Or.inl rfl) (fun h => sh_k1 h 52 rfl) (fun _ => rfl) (fun _ => rfl) ⟨⟨rfl, rfl⟩, rfl⟩ (fun _ hb => up2_same hb) (fun _ _ => rfl) (fun _ _ => rfl) (put_i (fun _ _ _ => rfl)) (fun h => Sh_si h) dX3_oneOf_42 ?_
      refine J_ltM (fun M4 => ?_)
      refine J_aload_n (pc := 45) dX3_oneOf_45 rfl ?_
      refine J_getO (pc := 46) (c := 2) rfl in_X3 14 (by decide) q1121 rfl (fun h => sh_k1 h 52 rfl) (fun _ _ => fv_rf (Or.inr ⟨_, rfl⟩)) dX3_oneOf_46 (fun r1 => ?_)
      refine J_aload_n (pc := 49) dX3_oneOf_49 rfl ?_
      refine J_get (pc := 50) (c := 2) (.int (M4.i 72 17)) rfl in_X3 17 (by decide) q1124 rfl (fun h => sh_k1 h 52 rfl) (fun _ _ => rfl) dX3_oneOf_50 ?_
      refine J_iconst (pc := 53) 1 dX3_oneOf_53 (by decide) ?_
      refine J_isub (pc := 54) dX3_oneOf_54 ?_
      refine J_rfe (fun a1 ea1 => ?_)
      subst ea1
      refine J_cka (fun h1 h12 => ?_)
      refine J_bald (pc := 55) (a := a1) (fun _ => ⟨h1, h12⟩) dX3_oneOf_55 ?_
      refine J_iload_n (pc := 56) dX3_oneOf_56 rfl ?_
      refine J_isub (pc := 57) dX3_oneOf_57 ?_
      exact J_iret (pc := 58) dX3_oneOf_58
    · refine J_aload_n (pc := 25) dX3_oneOf_25 rfl ?_
      refine J_aload_n (pc := 26) dX3_oneOf_26 rfl ?_
      refine J_get (pc := 27) (c := 2) (.int (M3.i 72 17)) rfl in_X3 17 (by decide) q1124 rfl (fun h => sh_k1 h 52 rfl) (fun _ _ => rfl) dX3_oneOf_27 ?_
      refine J_callV (pc := 30) (n := 1) (b := 72) (vs := [.int (M3.i 72 17)]) (ci := 2) (fun l => C_m_fault l (M3.i 72 17) M3) (lw_V q1312 q1314 qs63 q118 q1315) nmv_X3_fault rfl (by omega) (by decide) rfl (fun h => sh_k1 h 52 rfl) rfl (Nat.le_of_ble_eq_true rfl) dX3_oneOf_30 (fun _ M5 => ?_)
      refine J_iconst (pc := 33) 0 dX3_oneOf_33 (by decide) ?_
      exact J_iret (pc := 34) dX3_oneOf_34
  · refine J_iconst (pc := 7) 0 dX3_oneOf_7 (by decide) ?_
    exact J_iret (pc := 8) dX3_oneOf_8

theorem C_m_oneOf (l : Launch) (p1 : Int32) (p2 : Int32) (M : PM) : Ctr l Sh yX3_oneOf cX3_oneOf 3 (some .int) 3 rvI [.ref 72, .int p1, .int p2] M (m_oneOf p1 p2 M) := Ctr.of (by decide +kernel) (Nat.le_of_ble_eq_true rfl) (fun G => t_m_oneOf G p1 p2 M)

abbrev T_m_readWord (G : JG) (M : PM) (pc : Nat) (L : List (Option Value)) (S : List Value) (o : Option (Unit × PM)) : Prop := JJ G cX3_readWord yX3_readWord 2 4 none Sh (finR G Sh rvU) M pc L S o
def m_readWord_L66 (c1 : Int32) : Nat → PM → Option (Unit × PM)
  | 0, _ => none
  | n + 1, M7 =>
    bd (m_fine M7) fun v4 M8 =>
    if v4 = 0 then (some ((), M8))
    else (ck c1 10 <|
    jn (fun (M9 : PM) =>
    ck c1 10 <|
    if (M9.i 81 (ix c1)) = 6 then (bd (m_fault (M9.i 72 17) M9) fun _ M13 =>
    m_readWord_L66 c1 n M13)
    else (ck c1 10 <|
    bd (m_oneOf 97 26 M9) fun v5 M10 =>
    ck ((6 * c1) + (M9.i 81 (ix c1))) 60 <|
    lt (M10.si 80 (ix ((6 * c1) + (M9.i 81 (ix c1)))) ((Int32.toInt8 ((Int32.toInt8 v5).toInt32)).toInt32)) fun M11 =>
    ck c1 10 <|
    ck c1 10 <|
    lt (M11.si 81 (ix c1) ((M11.i 81 (ix c1)) + 1)) fun M12 =>
    m_readWord_L66 c1 n M12)) fun j2 =>
    if (M8.i 81 (ix c1)) = 0 then (j2 M8)
    else (bd (m_here M8) fun v6 M14 =>
    bd (m_in v6 97 122 M14) fun v7 M15 =>
    if v7 = 0 then (some ((), M15))
    else (j2 M15)))

set_option maxHeartbeats 4000000 in
theorem t_m_readWord_L66 (G : JG) (c1 : Int32) : ∀ (n : Nat) (M7 : PM), T_m_readWord G  M7 66 [some (.ref 72), some (.int c1)] [] (m_readWord_L66 c1 n  M7) := by
  intro n
  induction n with
  | zero =>
    intro M7
    exact J_none
  | succ n ih =>
    intro M7
    rw [m_readWord_L66]
    refine J_aload_n (pc := 66) dX3_readWord_66 rfl ?_
    refine J_callV (pc := 67) (n := 0) (b := 72) (vs := []) (ci := 2) (fun l => C_m_fine l  M7) (lw_V q1308 q1310 qs62 q118 q1311) nmv_X3_fine rfl (by omega) (by decide) rfl (fun h => sh_k1 h 52 rfl) rfl (Nat.le_of_ble_eq_true rfl) dX3_readWord_67 (fun v4 M8 => ?_)
    refine J_if_eq (pc := 70) 156 dX3_readWord_70 rfl (fun h => if_pos h) (fun h => if_neg h) (fun _ => ?_) (fun _ => ?_)
    · exact J_ret (pc := 156) dX3_readWord_156
    · refine J_aload_n (pc := 73) dX3_readWord_73 rfl ?_
      refine J_get (pc := 74) (c := 2) (.ref 81) rfl in_X3 20 (by decide) q1127 rfl (fun h => sh_k1 h 52 rfl) (fun h _ => fv_ref (Or.inr ⟨_, rfl⟩) (sh_r h 59 rfl)) dX3_readWord_74 ?_
      refine J_iload_n (pc := 77) dX3_readWord_77 rfl ?_
      refine J_ck (fun h4 => ?_)
      refine J_iald (pc := 78) (a := 81) (fun h => sh_a h 61 rfl h4) dX3_readWord_78 ?_
      refine J_jn (P := fun J => ∀ (M9 : PM), T_m_readWord G  M9 96 [some (.ref 72), some (.int c1)] [] (J M9)) (fun M9 => ?_) (fun j2 hj2 => ?_)
      · refine J_aload_n (pc := 96) dX3_readWord_96 rfl ?_
        refine J_get (pc := 97) (c := 2) (.ref 81) rfl in_X3 20 (by decide) q1127 rfl (fun h => sh_k1 h 52 rfl) (fun h _ => fv_ref (Or.inr ⟨_, rfl⟩) (sh_r h 59 rfl)) dX3_readWord_97 ?_
        refine J_iload_n (pc := 100) dX3_readWord_100 rfl ?_
        refine J_ck (fun h5 => ?_)
        refine J_iald (pc := 101) (a := 81) (fun h => sh_a h 61 rfl h5) dX3_readWord_101 ?_
        refine J_bipush (pc := 102) 6 dX3_readWord_102 (by decide) ?_
        refine J_icmp_ne (pc := 104) 118 dX3_readWord_104 rfl (fun h => if_neg h) (fun h => if_pos h) (fun _ => ?_) (fun _ => ?_)
        · refine J_aload_n (pc := 118) dX3_readWord_118 rfl ?_
          refine J_get (pc := 119) (c := 2) (.ref 80) rfl in_X3 19 (by decide) q1126 rfl (fun h => sh_k1 h 52 rfl) (fun h _ => fv_ref (Or.inr ⟨_, rfl⟩) (sh_r h 58 rfl)) dX3_readWord_119 ?_
          refine J_bipush (pc := 122) 6 dX3_readWord_122 (by decide) ?_
          refine J_iload_n (pc := 124) dX3_readWord_124 rfl ?_
          refine J_imul (pc := 125) dX3_readWord_125 ?_
          refine J_aload_n (pc := 126) dX3_readWord_126 rfl ?_
          refine J_get (pc := 127) (c := 2) (.ref 81) rfl in_X3 20 (by decide) q1127 rfl (fun h => sh_k1 h 52 rfl) (fun h _ => fv_ref (Or.inr ⟨_, rfl⟩) (sh_r h 59 rfl)) dX3_readWord_127 ?_
          refine J_iload_n (pc := 130) dX3_readWord_130 rfl ?_
          refine J_ck (fun h6 => ?_)
          refine J_iald (pc := 131) (a := 81) (fun h => sh_a h 61 rfl h6) dX3_readWord_131 ?_
          refine J_iadd (pc := 132) dX3_readWord_132 ?_
          refine J_aload_n (pc := 133) dX3_readWord_133 rfl ?_
          refine J_bipush (pc := 134) 97 dX3_readWord_134 (by decide) ?_
          refine J_bipush (pc := 136) 26 dX3_readWord_136 (by decide) ?_
          refine J_callV (pc := 138) (n := 2) (b := 72) (vs := [.int 97, .int 26]) (ci := 2) (fun l => C_m_oneOf l 97 26 M9) (lw_V q1320 q1322 qs65 q118 q1323) nmv_X3_oneOf rfl (by omega) (by decide) rfl (fun h => sh_k1 h 52 rfl) rfl (Nat.le_of_ble_eq_true rfl) dX3_readWord_138 (fun v5 M10 => ?_)
          refine J_i2b (pc := 141) dX3_readWord_141 ?_
          refine J_ck (fun h7 => ?_)
          refine J_bast (pc := 142) (a := 80) (fun h => sh_a h 60 rfl h7) (fun h => Sh_si h) dX3_readWord_142 ?_
          refine J_ltM (fun M11 => ?_)
          refine J_aload_n (pc := 143) dX3_readWord_143 rfl ?_
          refine J_get (pc := 144) (c := 2) (.ref 81) rfl in_X3 20 (by decide) q1127 rfl (fun h => sh_k1 h 52 rfl) (fun h _ => fv_ref (Or.inr ⟨_, rfl⟩) (sh_r h 59 rfl)) dX3_readWord_144 ?_
          refine J_iload_n (pc := 147) dX3_readWord_147 rfl ?_
          refine J_dup2 (pc := 148) dX3_readWord_148 rfl rfl ?_
          refine J_ck (fun h8 => ?_)
          refine J_iald (pc := 149) (a := 81) (fun h => sh_a h 61 rfl h8) dX3_readWord_149 ?_
          refine J_iconst (pc := 150) 1 dX3_readWord_150 (by decide) ?_
          refine J_iadd (pc := 151) dX3_readWord_151 ?_
          refine J_ck (fun h9 => ?_)
          refine J_iast (pc := 152) (a := 81) (fun h => sh_a h 61 rfl h9) (fun h => Sh_si h) dX3_readWord_152 ?_
          refine J_ltM (fun M12 => ?_)
          refine J_goto (pc := 153) 66 dX3_readWord_153 rfl ?_
          exact J_sub (A := [some (.ref 72), some (.int c1)]) ⟨rfl, ⟨rfl, trivial⟩⟩ (ih M12)
        · refine J_aload_n (pc := 107) dX3_readWord_107 rfl ?_
          refine J_aload_n (pc := 108) dX3_readWord_108 rfl ?_
          refine J_get (pc := 109) (c := 2) (.int (M9.i 72 17)) rfl in_X3 17 (by decide) q1124 rfl (fun h => sh_k1 h 52 rfl) (fun _ _ => rfl) dX3_readWord_109 ?_
          refine J_callV (pc := 112) (n := 1) (b := 72) (vs := [.int (M9.i 72 17)]) (ci := 2) (fun l => C_m_fault l (M9.i 72 17) M9) (lw_V q1312 q1314 qs63 q118 q1315) nmv_X3_fault rfl (by omega) (by decide) rfl (fun h => sh_k1 h 52 rfl) rfl (Nat.le_of_ble_eq_true rfl) dX3_readWord_112 (fun _ M13 => ?_)
          refine J_goto (pc := 115) 66 dX3_readWord_115 rfl ?_
          exact J_sub (A := [some (.ref 72), some (.int c1)]) ⟨rfl, ⟨rfl, trivial⟩⟩ (ih M13)
      refine J_if_eq (pc := 79) 96 dX3_readWord_79 rfl (fun h => if_pos h) (fun h => if_neg h) (fun _ => ?_) (fun _ => ?_)
      · exact J_sub (A := [some (.ref 72), some (.int c1)]) ⟨rfl, ⟨rfl, trivial⟩⟩ (hj2 M8)
      · refine J_aload_n (pc := 82) dX3_readWord_82 rfl ?_
        refine J_callV (pc := 83) (n := 0) (b := 72) (vs := []) (ci := 2) (fun l => C_m_here l  M8) (lw_V q1324 q1326 qs66 q118 q1327) nmv_X3_here rfl (by omega) (by decide) rfl (fun h => sh_k1 h 52 rfl) rfl (Nat.le_of_ble_eq_true rfl) dX3_readWord_83 (fun v6 M14 => ?_)
        refine J_bipush (pc := 86) 97 dX3_readWord_86 (by decide) ?_
        refine J_bipush (pc := 88) 122 dX3_readWord_88 (by decide) ?_
        refine J_callS (pc := 90) (n := 3) (vs := [.int v6, .int 97, .int 122]) (fun l => C_m_in l v6 97 122 M14) (lw_S q1289 q1290 q118 q1291) nmh_X3_in rfl (by omega) (by decide) rfl (Nat.le_of_ble_eq_true rfl) dX3_readWord_90 (fun v7 M15 => ?_)
        refine J_if_eq (pc := 93) 156 dX3_readWord_93 rfl (fun h => if_pos h) (fun h => if_neg h) (fun _ => ?_) (fun _ => ?_)
        · exact J_ret (pc := 156) dX3_readWord_156
        · exact J_sub (A := [some (.ref 72), some (.int c1)]) ⟨rfl, ⟨rfl, trivial⟩⟩ (hj2 M15)

def m_readWord (p1 : Int32) (M : PM) : Option (Unit × PM) :=
    bd (m_oneOf 48 10 M) fun v1 M1 =>
    ck (2 * p1) 40 <|
    lt (M1.si 82 (ix (2 * p1)) v1) fun M2 =>
    bd (m_fine M2) fun v2 M3 =>
    jn (fun (v3 : Int32) (M4 : PM) =>
    ck ((2 * p1) + 1) 40 <|
    lt (M4.si 82 (ix ((2 * p1) + 1)) v3) fun M5 =>
    ck p1 10 <|
    lt (M5.si 81 (ix p1) 0) fun M6 =>
    m_readWord_L66 p1 FU M6) fun j1 =>
    if v2 = 0 then (j1 (-1) M3)
    else (bd (m_here M3) fun v8 M16 =>
    bd (m_in v8 48 57 M16) fun v9 M17 =>
    if v9 = 0 then (j1 (-1) M17)
    else (bd (m_oneOf 48 10 M17) fun v10 M18 =>
    j1 v10 M18))

set_option maxHeartbeats 4000000 in
theorem t_m_readWord (G : JG) (p1 : Int32) (M : PM) : T_m_readWord G  M 0 (ent [.ref 72, .int p1] 2) [] (m_readWord p1 M) := by
  unfold m_readWord
  refine J_aload_n (pc := 0) dX3_readWord_0 rfl ?_
  refine J_get (pc := 1) (c := 2) (.ref 82) rfl in_X3 21 (by decide) q1128 rfl (fun h => sh_k1 h 52 rfl) (fun h _ => fv_ref (Or.inr ⟨_, rfl⟩) (sh_r h 60 rfl)) dX3_readWord_1 ?_
  refine J_iconst (pc := 4) 2 dX3_readWord_4 (by decide) ?_
  refine J_iload_n (pc := 5) dX3_readWord_5 rfl ?_
  refine J_imul (pc := 6) dX3_readWord_6 ?_
  refine J_aload_n (pc := 7) dX3_readWord_7 rfl ?_
  refine J_bipush (pc := 8) 48 dX3_readWord_8 (by decide) ?_
  refine J_bipush (pc := 10) 10 dX3_readWord_10 (by decide) ?_
  refine J_callV (pc := 12) (n := 2) (b := 72) (vs := [.int 48, .int 10]) (ci := 2) (fun l => C_m_oneOf l 48 10 M) (lw_V q1320 q1322 qs65 q118 q1323) nmv_X3_oneOf rfl (by omega) (by decide) rfl (fun h => sh_k1 h 52 rfl) rfl (Nat.le_of_ble_eq_true rfl) dX3_readWord_12 (fun v1 M1 => ?_)
  refine J_ck (fun h1 => ?_)
  refine J_iast (pc := 15) (a := 82) (fun h => sh_a h 62 rfl h1) (fun h => Sh_si h) dX3_readWord_15 ?_
  refine J_ltM (fun M2 => ?_)
  refine J_aload_n (pc := 16) dX3_readWord_16 rfl ?_
  refine J_get (pc := 17) (c := 2) (.ref 82) rfl in_X3 21 (by decide) q1128 rfl (fun h => sh_k1 h 52 rfl) (fun h _ => fv_ref (Or.inr ⟨_, rfl⟩) (sh_r h 60 rfl)) dX3_readWord_17 ?_
  refine J_iconst (pc := 20) 2 dX3_readWord_20 (by decide) ?_
  refine J_iload_n (pc := 21) dX3_readWord_21 rfl ?_
  refine J_imul (pc := 22) dX3_readWord_22 ?_
  refine J_iconst (pc := 23) 1 dX3_readWord_23 (by decide) ?_
  refine J_iadd (pc := 24) dX3_readWord_24 ?_
  refine J_aload_n (pc := 25) dX3_readWord_25 rfl ?_
  refine J_callV (pc := 26) (n := 0) (b := 72) (vs := []) (ci := 2) (fun l => C_m_fine l  M2) (lw_V q1308 q1310 qs62 q118 q1311) nmv_X3_fine rfl (by omega) (by decide) rfl (fun h => sh_k1 h 52 rfl) rfl (Nat.le_of_ble_eq_true rfl) dX3_readWord_26 (fun v2 M3 => ?_)
  refine J_jn (P := fun J => ∀ (v3 : Int32) (M4 : PM), T_m_readWord G  M4 58 [some (.ref 72), some (.int p1)] [.int v3, .int ((2 * p1) + 1), .ref 82] (J v3 M4)) (fun v3 M4 => ?_) (fun j1 hj1 => ?_)
  · refine J_ck (fun h2 => ?_)
    refine J_iast (pc := 58) (a := 82) (fun h => sh_a h 62 rfl h2) (fun h => Sh_si h) dX3_readWord_58 ?_
    refine J_ltM (fun M5 => ?_)
    refine J_aload_n (pc := 59) dX3_readWord_59 rfl ?_
    refine J_get (pc := 60) (c := 2) (.ref 81) rfl in_X3 20 (by decide) q1127 rfl (fun h => sh_k1 h 52 rfl) (fun h _ => fv_ref (Or.inr ⟨_, rfl⟩) (sh_r h 59 rfl)) dX3_readWord_60 ?_
    refine J_iload_n (pc := 63) dX3_readWord_63 rfl ?_
    refine J_iconst (pc := 64) 0 dX3_readWord_64 (by decide) ?_
    refine J_ck (fun h3 => ?_)
    refine J_iast (pc := 65) (a := 81) (fun h => sh_a h 61 rfl h3) (fun h => Sh_si h) dX3_readWord_65 ?_
    refine J_ltM (fun M6 => ?_)
    refine J_sub (A := [some (.ref 72), some (.int p1)]) ⟨rfl, ⟨rfl, trivial⟩⟩ (t_m_readWord_L66 G p1  FU M6)
  refine J_if_eq (pc := 29) 57 dX3_readWord_29 rfl (fun h => if_pos h) (fun h => if_neg h) (fun _ => ?_) (fun _ => ?_)
  · refine J_iconst (pc := 57) (-1) dX3_readWord_57 (by decide) ?_
    exact J_sub (A := [some (.ref 72), some (.int p1)]) ⟨rfl, ⟨rfl, trivial⟩⟩ (hj1 (-1) M3)
  · refine J_aload_n (pc := 32) dX3_readWord_32 rfl ?_
    refine J_callV (pc := 33) (n := 0) (b := 72) (vs := []) (ci := 2) (fun l => C_m_here l  M3) (lw_V q1324 q1326 qs66 q118 q1327) nmv_X3_here rfl (by omega) (by decide) rfl (fun h => sh_k1 h 52 rfl) rfl (Nat.le_of_ble_eq_true rfl) dX3_readWord_33 (fun v8 M16 => ?_)
    refine J_bipush (pc := 36) 48 dX3_readWord_36 (by decide) ?_
    refine J_bipush (pc := 38) 57 dX3_readWord_38 (by decide) ?_
    refine J_callS (pc := 40) (n := 3) (vs := [.int v8, .int 48, .int 57]) (fun l => C_m_in l v8 48 57 M16) (lw_S q1289 q1290 q118 q1291) nmh_X3_in rfl (by omega) (by decide) rfl (Nat.le_of_ble_eq_true rfl) dX3_readWord_40 (fun v9 M17 => ?_)
    refine J_if_eq (pc := 43) 57 dX3_readWord_43 rfl (fun h => if_pos h) (fun h => if_neg h) (fun _ => ?_) (fun _ => ?_)
    · refine J_iconst (pc := 57) (-1) dX3_readWord_57 (by decide) ?_
      exact J_sub (A := [some (.ref 72), some (.int p1)]) ⟨rfl, ⟨rfl, trivial⟩⟩ (hj1 (-1) M17)
    · refine J_aload_n (pc := 46) dX3_readWord_46 rfl ?_
      refine J_bipush (pc := 47) 48 dX3_readWord_47 (by decide) ?_
      refine J_bipush (pc := 49) 10 dX3_readWord_49 (by decide) ?_
      refine J_callV (pc := 51) (n := 2) (b := 72) (vs := [.int 48, .int 10]) (ci := 2) (fun l => C_m_oneOf l 48 10 M17) (lw_V q1320 q1322 qs65 q118 q1323) nmv_X3_oneOf rfl (by omega) (by decide) rfl (fun h => sh_k1 h 52 rfl) rfl (Nat.le_of_ble_eq_true rfl) dX3_readWord_51 (fun v10 M18 => ?_)
      refine J_goto (pc := 54) 58 dX3_readWord_54 rfl ?_
      exact J_sub (A := [some (.ref 72), some (.int p1)]) ⟨rfl, ⟨rfl, trivial⟩⟩ (hj1 v10 M18)

theorem C_m_readWord (l : Launch) (p1 : Int32) (M : PM) : Ctr l Sh yX3_readWord cX3_readWord 2 none 4 rvU [.ref 72, .int p1] M (m_readWord p1 M) := Ctr.of (by decide +kernel) (Nat.le_of_ble_eq_true rfl) (fun G => t_m_readWord G p1 M)

abbrev T_m_wasRight (G : JG) (M : PM) (pc : Nat) (L : List (Option Value)) (S : List Value) (o : Option (Int32 × PM)) : Prop := JJ G cX3_wasRight yX3_wasRight 1 3 (some .boolean) Sh (finR G Sh rvI) M pc L S o
def m_wasRight (M : PM) : Option (Int32 × PM) :=
    jn (fun (M1 : PM) =>
    bd (m_fine M1) fun v1 M2 =>
    ckb (v1 = 0 ∨ v1 = 1) <|
    some (v1, M2)) fun j1 =>
    if (M.i 72 15) ≤ (M.i 72 17) then (j1 M)
    else (bd (m_fault (M.i 72 17) M) fun _ M3 =>
    j1 M3)

set_option maxHeartbeats 4000000 in
theorem t_m_wasRight (G : JG) (M : PM) : T_m_wasRight G  M 0 (ent [.ref 72] 1) [] (m_wasRight M) := by
  unfold m_wasRight
  refine J_aload_n (pc := 0) dX3_wasRight_0 rfl ?_
  refine J_get (pc := 1) (c := 2) (.int (M.i 72 17)) rfl in_X3 17 (by decide) q1124 rfl (fun h => sh_k1 h 52 rfl) (fun _ _ => rfl) dX3_wasRight_1 ?_
  refine J_aload_n (pc := 4) dX3_wasRight_4 rfl ?_
  refine J_get (pc := 5) (c := 2) (.int (M.i 72 15)) rfl in_X3 15 (by decide) q1122 rfl (fun h => sh_k1 h 52 rfl) (fun _ _ => rfl) dX3_wasRight_5 ?_
  refine J_jn (P := fun J => ∀ (M1 : PM), T_m_wasRight G  M1 19 [some (.ref 72)] [] (J M1)) (fun M1 => ?_) (fun j1 hj1 => ?_)
  · refine J_aload_n (pc := 19) dX3_wasRight_19 rfl ?_
    refine J_callV (pc := 20) (n := 0) (b := 72) (vs := []) (ci := 2) (fun l => C_m_fine l  M1) (lw_V q1308 q1310 qs62 q118 q1311) nmv_X3_fine rfl (by omega) (by decide) rfl (fun h => sh_k1 h 52 rfl) rfl (Nat.le_of_ble_eq_true rfl) dX3_wasRight_20 (fun v1 M2 => ?_)
    refine J_ckb (fun h1 => ?_)
    exact J_zret (pc := 23) (nz h1) dX3_wasRight_23
  refine J_icmp_ge (pc := 8) 19 dX3_wasRight_8 rfl (fun h => if_pos h) (fun h => if_neg h) (fun _ => ?_) (fun _ => ?_)
  · exact J_sub (A := [some (.ref 72)]) ⟨rfl, trivial⟩ (hj1 M)
  · refine J_aload_n (pc := 11) dX3_wasRight_11 rfl ?_
    refine J_aload_n (pc := 12) dX3_wasRight_12 rfl ?_
    refine J_get (pc := 13) (c := 2) (.int (M.i 72 17)) rfl in_X3 17 (by decide) q1124 rfl (fun h => sh_k1 h 52 rfl) (fun _ _ => rfl) dX3_wasRight_13 ?_
    refine J_callV (pc := 16) (n := 1) (b := 72) (vs := [.int (M.i 72 17)]) (ci := 2) (fun l => C_m_fault l (M.i 72 17) M) (lw_V q1312 q1314 qs63 q118 q1315) nmv_X3_fault rfl (by omega) (by decide) rfl (fun h => sh_k1 h 52 rfl) rfl (Nat.le_of_ble_eq_true rfl) dX3_wasRight_16 (fun _ M3 => ?_)
    exact J_sub (A := [some (.ref 72)]) ⟨rfl, trivial⟩ (hj1 M3)

theorem C_m_wasRight (l : Launch) (M : PM) : Ctr l Sh yX3_wasRight cX3_wasRight 1 (some .boolean) 3 rvI [.ref 72] M (m_wasRight M) := Ctr.of (by decide +kernel) (Nat.le_of_ble_eq_true rfl) (fun G => t_m_wasRight G M)

abbrev T_m_words (G : JG) (M : PM) (pc : Nat) (L : List (Option Value)) (S : List Value) (o : Option (Int32 × PM)) : Prop := JJ G cX3_words yX3_words 5 5 (some .int) Sh (finR G Sh rvI) M pc L S o
def m_words_L24 (k75 : Int32 → PM → Option (Int32 × PM)) : Nat → Int32 → Int32 → PM → Option (Int32 × PM)
  | 0, _, _, _ => none
  | n + 1, v1, v2, M3 =>
    jn (fun (M4 : PM) =>
    k75 v1 M4) fun j1 =>
    if v2 = 0 then (j1 M3)
    else (bd (m_fine M3) fun v3 M5 =>
    if v3 = 0 then (j1 M5)
    else (jn (fun (M6 : PM) =>
    lt (v1 + 1) fun v4 =>
    bd (m_passes 59 M6) fun v5 M7 =>
    m_words_L24 k75 n v4 v5 M7) fun j2 =>
    if ((M5.i 72 2) + v1) = 10 then (bd (m_fault (M5.i 72 17) M5) fun _ M9 =>
    j2 M9)
    else (bd (m_readWord v1 M5) fun _ M8 =>
    j2 M8)))

set_option maxHeartbeats 4000000 in
theorem t_m_words_L24 (G : JG) (k75 : Int32 → PM → Option (Int32 × PM)) (hk75 : ∀ z1 Me, T_m_words G  Me 75 [some (.ref 72), some (.int z1), none, none, none] [] (k75 z1 Me)) : ∀ (n : Nat) (v1 : Int32) (v2 : Int32) (M3 : PM), T_m_words G  M3 24 [some (.ref 72), some (.int v1), some (.int v2), none, none] [] (m_words_L24 k75 n v1 v2 M3) := by
  intro n
  induction n with
  | zero =>
    intro v1 v2 M3
    exact J_none
  | succ n ih =>
    intro v1 v2 M3
    rw [m_words_L24]
    refine J_iload_n (pc := 24) dX3_words_24 rfl ?_
    refine J_jn (P := fun J => ∀ (M4 : PM), T_m_words G  M4 75 [some (.ref 72), some (.int v1), none, none, none] [] (J M4)) (fun M4 => ?_) (fun j1 hj1 => ?_)
    · exact J_sub (A := [some (.ref 72), some (.int v1), none, none, none]) ⟨rfl, ⟨rfl, trivial⟩⟩ (hk75 v1 M4)
    refine J_if_eq (pc := 25) 75 dX3_words_25 rfl (fun h => if_pos h) (fun h => if_neg h) (fun _ => ?_) (fun _ => ?_)
    · exact J_sub (A := [some (.ref 72), some (.int v1), none, none, none]) ⟨rfl, ⟨rfl, trivial⟩⟩ (hj1 M3)
    · refine J_aload_n (pc := 28) dX3_words_28 rfl ?_
      refine J_callV (pc := 29) (n := 0) (b := 72) (vs := []) (ci := 2) (fun l => C_m_fine l  M3) (lw_V q1308 q1310 qs62 q118 q1311) nmv_X3_fine rfl (by omega) (by decide) rfl (fun h => sh_k1 h 52 rfl) rfl (Nat.le_of_ble_eq_true rfl) dX3_words_29 (fun v3 M5 => ?_)
      refine J_if_eq (pc := 32) 75 dX3_words_32 rfl (fun h => if_pos h) (fun h => if_neg h) (fun _ => ?_) (fun _ => ?_)
      · exact J_sub (A := [some (.ref 72), some (.int v1), none, none, none]) ⟨rfl, ⟨rfl, trivial⟩⟩ (hj1 M5)
      · refine J_aload_n (pc := 35) dX3_words_35 rfl ?_
        refine J_get (pc := 36) (c := 2) (.int (M5.i 72 2)) rfl in_X3 2 (by decide) q1109 rfl (fun h => sh_k1 h 52 rfl) (fun _ _ => rfl) dX3_words_36 ?_
        refine J_iload_n (pc := 39) dX3_words_39 rfl ?_
        refine J_iadd (pc := 40) dX3_words_40 ?_
        refine J_bipush (pc := 41) 10 dX3_words_41 (by decide) ?_
        refine J_jn (P := fun J => ∀ (M6 : PM), T_m_words G  M6 62 [some (.ref 72), some (.int v1), none, none, none] [] (J M6)) (fun M6 => ?_) (fun j2 hj2 => ?_)
        · refine J_iincL (pc := 62) (n := 1) (by decide) dX3_words_62 rfl (by decide) (fun v4 => ?_)
          refine J_aload_n (pc := 65) dX3_words_65 rfl ?_
          refine J_bipush (pc := 66) 59 dX3_words_66 (by decide) ?_
          refine J_callV (pc := 68) (n := 1) (b := 72) (vs := [.int 59]) (ci := 2) (fun l => C_m_passes l 59 M6) (lw_V q1328 q1330 qs67 q118 q1331) nmv_X3_passes rfl (by omega) (by decide) rfl (fun h => sh_k1 h 52 rfl) rfl (Nat.le_of_ble_eq_true rfl) dX3_words_68 (fun v5 M7 => ?_)
          refine J_istore_n (pc := 71) dX3_words_71 (by decide) ?_
          refine J_goto (pc := 72) 24 dX3_words_72 rfl ?_
          exact J_sub (A := [some (.ref 72), some (.int v4), some (.int v5), none, none]) ⟨rfl, ⟨rfl, ⟨rfl, trivial⟩⟩⟩ (ih v4 v5 M7)
        refine J_icmp_ne (pc := 43) 57 dX3_words_43 rfl (fun h => if_neg h) (fun h => if_pos h) (fun _ => ?_) (fun _ => ?_)
        · refine J_aload_n (pc := 57) dX3_words_57 rfl ?_
          refine J_iload_n (pc := 58) dX3_words_58 rfl ?_
          refine J_callV (pc := 59) (n := 1) (b := 72) (vs := [.int v1]) (ci := 2) (fun l => C_m_readWord l v1 M5) (lw_V q1316 q1318 qs64 q118 q1319) nmv_X3_readWord rfl (by omega) (by decide) rfl (fun h => sh_k1 h 52 rfl) rfl (Nat.le_of_ble_eq_true rfl) dX3_words_59 (fun _ M8 => ?_)
          exact J_sub (A := [some (.ref 72), some (.int v1), none, none, none]) ⟨rfl, ⟨rfl, trivial⟩⟩ (hj2 M8)
        · refine J_aload_n (pc := 46) dX3_words_46 rfl ?_
          refine J_aload_n (pc := 47) dX3_words_47 rfl ?_
          refine J_get (pc := 48) (c := 2) (.int (M5.i 72 17)) rfl in_X3 17 (by decide) q1124 rfl (fun h => sh_k1 h 52 rfl) (fun _ _ => rfl) dX3_words_48 ?_
          refine J_callV (pc := 51) (n := 1) (b := 72) (vs := [.int (M5.i 72 17)]) (ci := 2) (fun l => C_m_fault l (M5.i 72 17) M5) (lw_V q1312 q1314 qs63 q118 q1315) nmv_X3_fault rfl (by omega) (by decide) rfl (fun h => sh_k1 h 52 rfl) rfl (Nat.le_of_ble_eq_true rfl) dX3_words_51 (fun _ M9 => ?_)
          refine J_goto (pc := 54) 62 dX3_words_54 rfl ?_
          exact J_sub (A := [some (.ref 72), some (.int v1), none, none, none]) ⟨rfl, ⟨rfl, trivial⟩⟩ (hj2 M9)

def m_words_L99 (c1 : Int32) (c3 : Int32) (k139 : PM → Option (Int32 × PM)) : Nat → Int32 → PM → Option (Int32 × PM)
  | 0, _, _ => none
  | n + 1, v9, M13 =>
    if 6 ≤ v9 then (k139 M13)
    else (ck ((6 * c3) + v9) 60 <|
    ck ((6 * (M13.i 72 2)) + v9) 60 <|
    lt (M13.si 74 (ix ((6 * (M13.i 72 2)) + v9)) ((Int32.toInt8 (M13.i 80 (ix ((6 * c3) + v9)))).toInt32)) fun M14 =>
    lt (v9 + 1) fun v10 =>
    m_words_L99 c1 c3 k139 n v10 M14)

set_option maxHeartbeats 4000000 in
theorem t_m_words_L99 (G : JG) (c1 : Int32) (c3 : Int32) (k139 : PM → Option (Int32 × PM)) (hk139 : ∀ Me, T_m_words G  Me 139 [some (.ref 72), some (.int c1), none, some (.int c3), none] [] (k139 Me)) : ∀ (n : Nat) (v9 : Int32) (M13 : PM), T_m_words G  M13 99 [some (.ref 72), some (.int c1), none, some (.int c3), some (.int v9)] [] (m_words_L99 c1 c3 k139 n v9 M13) := by
  intro n
  induction n with
  | zero =>
    intro v9 M13
    exact J_none
  | succ n ih =>
    intro v9 M13
    rw [m_words_L99]
    refine J_iload (pc := 99) dX3_words_99 rfl ?_
    refine J_bipush (pc := 101) 6 dX3_words_101 (by decide) ?_
    refine J_icmp_ge (pc := 103) 139 dX3_words_103 rfl (fun h => if_pos h) (fun h => if_neg h) (fun _ => ?_) (fun _ => ?_)
    · exact J_sub (A := [some (.ref 72), some (.int c1), none, some (.int c3), none]) ⟨rfl, ⟨rfl, ⟨rfl, trivial⟩⟩⟩ (hk139 M13)
    · refine J_aload_n (pc := 106) dX3_words_106 rfl ?_
      refine J_get (pc := 107) (c := 2) (.ref 74) rfl in_X3 3 (by decide) q1110 rfl (fun h => sh_k1 h 52 rfl) (fun h _ => fv_ref (Or.inr ⟨_, rfl⟩) (sh_r h 52 rfl)) dX3_words_107 ?_
      refine J_bipush (pc := 110) 6 dX3_words_110 (by decide) ?_
      refine J_aload_n (pc := 112) dX3_words_112 rfl ?_
      refine J_get (pc := 113) (c := 2) (.int (M13.i 72 2)) rfl in_X3 2 (by decide) q1109 rfl (fun h => sh_k1 h 52 rfl) (fun _ _ => rfl) dX3_words_113 ?_
      refine J_imul (pc := 116) dX3_words_116 ?_
      refine J_iload (pc := 117) dX3_words_117 rfl ?_
      refine J_iadd (pc := 119) dX3_words_119 ?_
      refine J_aload_n (pc := 120) dX3_words_120 rfl ?_
      refine J_get (pc := 121) (c := 2) (.ref 80) rfl in_X3 19 (by decide) q1126 rfl (fun h => sh_k1 h 52 rfl) (fun h _ => fv_ref (Or.inr ⟨_, rfl⟩) (sh_r h 58 rfl)) dX3_words_121 ?_
      refine J_bipush (pc := 124) 6 dX3_words_124 (by decide) ?_
      refine J_iload_n (pc := 126) dX3_words_126 rfl ?_
      refine J_imul (pc := 127) dX3_words_127 ?_
      refine J_iload (pc := 128) dX3_words_128 rfl ?_
      refine J_iadd (pc := 130) dX3_words_130 ?_
      refine J_ck (fun h1 => ?_)
      refine J_bald (pc := 131) (a := 80) (fun h => sh_a h 60 rfl h1) dX3_words_131 ?_
      refine J_ck (fun h2 => ?_)
      refine J_bast (pc := 132) (a := 74) (fun h => sh_a h 54 rfl h2) (fun h => Sh_si h) dX3_words_132 ?_
      refine J_ltM (fun M14 => ?_)
      refine J_iincL (pc := 133) (n := 1) (by decide) dX3_words_133 rfl (by decide) (fun v10 => ?_)
      refine J_goto (pc := 136) 99 dX3_words_136 rfl ?_
      exact J_sub (A := [some (.ref 72), some (.int c1), none, some (.int c3), some (.int v10)]) ⟨rfl, ⟨rfl, ⟨rfl, ⟨rfl, trivial⟩⟩⟩⟩ (ih v10 M14)

def m_words_L91 (c1 : Int32) (k212 : PM → Option (Int32 × PM)) : Nat → Int32 → PM → Option (Int32 × PM)
  | 0, _, _ => none
  | n + 1, v8, M12 =>
    if c1 ≤ v8 then (k212 M12)
    else (m_words_L99 c1 v8 (fun (M15 : PM) =>
    ck v8 10 <|
    ck (M15.i 72 2) 10 <|
    lt (M15.si 75 (ix (M15.i 72 2)) (M15.i 81 (ix v8))) fun M16 =>
    ck (2 * v8) 40 <|
    ck (2 * (M16.i 72 2)) 20 <|
    lt (M16.si 76 (ix (2 * (M16.i 72 2))) (M16.i 82 (ix (2 * v8)))) fun M17 =>
    ck ((2 * v8) + 1) 40 <|
    ck ((2 * (M17.i 72 2)) + 1) 20 <|
    lt (M17.si 76 (ix ((2 * (M17.i 72 2)) + 1)) (M17.i 82 (ix ((2 * v8) + 1)))) fun M18 =>
    lt (M18.si 72 2 ((M18.i 72 2) + 1)) fun M19 =>
    lt (v8 + 1) fun v11 =>
    m_words_L91 c1 k212 n v11 M19) FU 0 M12)

set_option maxHeartbeats 4000000 in
theorem t_m_words_L91 (G : JG) (c1 : Int32) (k212 : PM → Option (Int32 × PM)) (hk212 : ∀ Me, T_m_words G  Me 212 [some (.ref 72), some (.int c1), none, none, none] [] (k212 Me)) : ∀ (n : Nat) (v8 : Int32) (M12 : PM), T_m_words G  M12 91 [some (.ref 72), some (.int c1), none, some (.int v8), none] [] (m_words_L91 c1 k212 n v8 M12) := by
  intro n
  induction n with
  | zero =>
    intro v8 M12
    exact J_none
  | succ n ih =>
    intro v8 M12
    rw [m_words_L91]
    refine J_iload_n (pc := 91) dX3_words_91 rfl ?_
    refine J_iload_n (pc := 92) dX3_words_92 rfl ?_
    refine J_icmp_ge (pc := 93) 212 dX3_words_93 rfl (fun h => if_pos h) (fun h => if_neg h) (fun _ => ?_) (fun _ => ?_)
    · exact J_sub (A := [some (.ref 72), some (.int c1), none, none, none]) ⟨rfl, ⟨rfl, trivial⟩⟩ (hk212 M12)
    · refine J_iconst (pc := 96) 0 dX3_words_96 (by decide) ?_
      refine J_istore (pc := 97) dX3_words_97 (by decide) ?_
      refine J_sub (A := [some (.ref 72), some (.int c1), none, some (.int v8), some (.int 0)]) ⟨rfl, ⟨rfl, ⟨rfl, ⟨rfl, trivial⟩⟩⟩⟩ (t_m_words_L99 G c1 v8 _ ?_ FU 0 M12)
      · intro M15
        refine J_aload_n (pc := 139) dX3_words_139 rfl ?_
        refine J_get (pc := 140) (c := 2) (.ref 75) rfl in_X3 4 (by decide) q1111 rfl (fun h => sh_k1 h 52 rfl) (fun h _ => fv_ref (Or.inr ⟨_, rfl⟩) (sh_r h 53 rfl)) dX3_words_140 ?_
        refine J_aload_n (pc := 143) dX3_words_143 rfl ?_
        refine J_get (pc := 144) (c := 2) (.int (M15.i 72 2)) rfl in_X3 2 (by decide) q1109 rfl (fun h => sh_k1 h 52 rfl) (fun _ _ => rfl) dX3_words_144 ?_
        refine J_aload_n (pc := 147) dX3_words_147 rfl ?_
        refine J_get (pc := 148) (c := 2) (.ref 81) rfl in_X3 20 (by decide) q1127 rfl (fun h => sh_k1 h 52 rfl) (fun h _ => fv_ref (Or.inr ⟨_, rfl⟩) (sh_r h 59 rfl)) dX3_words_148 ?_
        refine J_iload_n (pc := 151) dX3_words_151 rfl ?_
        refine J_ck (fun h3 => ?_)
        refine J_iald (pc := 152) (a := 81) (fun h => sh_a h 61 rfl h3) dX3_words_152 ?_
        refine J_ck (fun h4 => ?_)
        refine J_iast (pc := 153) (a := 75) (fun h => sh_a h 55 rfl h4) (fun h => Sh_si h) dX3_words_153 ?_
        refine J_ltM (fun M16 => ?_)
        refine J_aload_n (pc := 154) dX3_words_154 rfl ?_
        refine J_get (pc := 155) (c := 2) (.ref 76) rfl in_X3 5 (by decide) q1112 rfl (fun h => sh_k1 h 52 rfl) (fun h _ => fv_ref (Or.inr ⟨_, rfl⟩) (sh_r h 54 rfl)) dX3_words_155 ?_
        refine J_iconst (pc := 158) 2 dX3_words_158 (by decide) ?_
        refine J_aload_n (pc := 159) dX3_words_159 rfl ?_
        refine J_get (pc := 160) (c := 2) (.int (M16.i 72 2)) rfl in_X3 2 (by decide) q1109 rfl (fun h => sh_k1 h 52 rfl) (fun _ _ => rfl) dX3_words_160 ?_
        refine J_imul (pc := 163) dX3_words_163 ?_
        refine J_aload_n (pc := 164) dX3_words_164 rfl ?_
        refine J_get (pc := 165) (c := 2) (.ref 82) rfl in_X3 21 (by decide) q1128 rfl (fun h => sh_k1 h 52 rfl) (fun h _ => fv_ref (Or.inr ⟨_, rfl⟩) (sh_r h 60 rfl)) dX3_words_165 ?_
        refine J_iconst (pc := 168) 2 dX3_words_168 (by decide) ?_
        refine J_iload_n (pc := 169) dX3_words_169 rfl ?_
        refine J_imul (pc := 170) dX3_words_170 ?_
        refine J_ck (fun h5 => ?_)
        refine J_iald (pc := 171) (a := 82) (fun h => sh_a h 62 rfl h5) dX3_words_171 ?_
        refine J_ck (fun h6 => ?_)
        refine J_iast (pc := 172) (a := 76) (fun h => sh_a h 56 rfl h6) (fun h => Sh_si h) dX3_words_172 ?_
        refine J_ltM (fun M17 => ?_)
        refine J_aload_n (pc := 173) dX3_words_173 rfl ?_
        refine J_get (pc := 174) (c := 2) (.ref 76) rfl in_X3 5 (by decide) q1112 rfl (fun h => sh_k1 h 52 rfl) (fun h _ => fv_ref (Or.inr ⟨_, rfl⟩) (sh_r h 54 rfl)) dX3_words_174 ?_
        refine J_iconst (pc := 177) 2 dX3_words_177 (by decide) ?_
        refine J_aload_n (pc := 178) dX3_words_178 rfl ?_
        refine J_get (pc := 179) (c := 2) (.int (M17.i 72 2)) rfl in_X3 2 (by decide) q1109 rfl (fun h => sh_k1 h 52 rfl) (fun _ _ => rfl) dX3_words_179 ?_
        refine J_imul (pc := 182) dX3_words_182 ?_
        refine J_iconst (pc := 183) 1 dX3_words_183 (by decide) ?_
        refine J_iadd (pc := 184) dX3_words_184 ?_
        refine J_aload_n (pc := 185) dX3_words_185 rfl ?_
        refine J_get (pc := 186) (c := 2) (.ref 82) rfl in_X3 21 (by decide) q1128 rfl (fun h => sh_k1 h 52 rfl) (fun h _ => fv_ref (Or.inr ⟨_, rfl⟩) (sh_r h 60 rfl)) dX3_words_186 ?_
        refine J_iconst (pc := 189) 2 dX3_words_189 (by decide) ?_
        refine J_iload_n (pc := 190) dX3_words_190 rfl ?_
        refine J_imul (pc := 191) dX3_words_191 ?_
        refine J_iconst (pc := 192) 1 dX3_words_192 (by decide) ?_
        refine J_iadd (pc := 193) dX3_words_193 ?_
        refine J_ck (fun h7 => ?_)
        refine J_iald (pc := 194) (a := 82) (fun h => sh_a h 62 rfl h7) dX3_words_194 ?_
        refine J_ck (fun h8 => ?_)
        refine J_iast (pc := 195) (a := 76) (fun h => sh_a h 56 rfl h8) (fun h => Sh_si h) dX3_words_195 ?_
        refine J_ltM (fun M18 => ?_)
        refine J_aload_n (pc := 196) dX3_words_196 rfl ?_
        refine J_dup (pc := 197) dX3_words_197 rfl ?_
        refine J_get (pc := 198) (c := 2) (.int (M18.i 72 2)) rfl in_X3 2 (by decide) q1109 rfl (fun h => sh_k1 h 52 rfl) (fun _ _ => rfl) dX3_words_198 ?_
        refine J_iconst (pc := 201) 1 dX3_words_201 (by decide) ?_
        refine J_iadd (pc := 202) dX3_words_202 ?_
        refine J_put (pc := 203) (a := 72) (v := .int ((M18.i 72 2) + 1)) (M' := M18.si 72 2 ((M18.i 72 2) + 1)) (c := 2) rfl in_X3 tyX3_ok fnX3 2 (by decide) q1109 rfl (Or.inl rfl) (fun h => sh_k1 h 52 rfl) (fun _ => rfl) (fun _ => rfl) ⟨⟨rfl, rfl⟩, rfl⟩ (fun _ hb => up2_same hb) (fun _ _ => rfl) (fun _ _ => rfl) (put_i (fun _ _ _ => rfl)) (fun h => Sh_si h) dX3_words_203 ?_
        refine J_ltM (fun M19 => ?_)
        refine J_iincL (pc := 206) (n := 1) (by decide) dX3_words_206 rfl (by decide) (fun v11 => ?_)
        refine J_goto (pc := 209) 91 dX3_words_209 rfl ?_
        exact J_sub (A := [some (.ref 72), some (.int c1), none, some (.int v11), none]) ⟨rfl, ⟨rfl, ⟨rfl, trivial⟩⟩⟩ (ih v11 M19)

def m_words (M : PM) : Option (Int32 × PM) :=
    lt (M.si 72 13 0) fun M1 =>
    bd (m_beginText 76 M1) fun _ M2 =>
    if (M2.i 72 15) = 0 then (some (0, M2))
    else (m_words_L24 (fun (v6 : Int32) (M10 : PM) =>
    bd (m_wasRight M10) fun v7 M11 =>
    if v7 = 0 then (some (((-1) - (M11.i 72 18)), M11))
    else (m_words_L91 v6 (fun (M20 : PM) =>
    lt (M20.si 72 29 0) fun M21 =>
    lt (M21.si 72 52 ((M21.i 72 52) + 1)) fun M22 =>
    some (v6, M22)) FU 0 M11)) FU 0 1 M2)

set_option maxHeartbeats 4000000 in
theorem t_m_words (G : JG) (M : PM) : T_m_words G  M 0 (ent [.ref 72] 5) [] (m_words M) := by
  unfold m_words
  refine J_aload_n (pc := 0) dX3_words_0 rfl ?_
  refine J_iconst (pc := 1) 0 dX3_words_1 (by decide) ?_
  refine J_put (pc := 2) (a := 72) (v := .int 0) (M' := M.si 72 13 0) (c := 2) rfl in_X3 tyX3_ok fnX3 13 (by decide) q1120 rfl (Or.inl rfl) (fun h => sh_k1 h 52 rfl) (fun _ => rfl) (fun _ => rfl) ⟨⟨rfl, rfl⟩, rfl⟩ (fun _ hb => up2_same hb) (fun _ _ => rfl) (fun _ _ => rfl) (put_i (fun _ _ _ => rfl)) (fun h => Sh_si h) dX3_words_2 ?_
  refine J_ltM (fun M1 => ?_)
  refine J_aload_n (pc := 5) dX3_words_5 rfl ?_
  refine J_bipush (pc := 6) 76 dX3_words_6 (by decide) ?_
  refine J_callV (pc := 8) (n := 1) (b := 72) (vs := [.int 76]) (ci := 2) (fun l => C_m_beginText l 76 M1) (lw_V q1300 q1302 qs60 q118 q1303) nmv_X3_beginText rfl (by omega) (by decide) rfl (fun h => sh_k1 h 52 rfl) rfl (Nat.le_of_ble_eq_true rfl) dX3_words_8 (fun _ M2 => ?_)
  refine J_aload_n (pc := 11) dX3_words_11 rfl ?_
  refine J_get (pc := 12) (c := 2) (.int (M2.i 72 15)) rfl in_X3 15 (by decide) q1122 rfl (fun h => sh_k1 h 52 rfl) (fun _ _ => rfl) dX3_words_12 ?_
  refine J_if_ne (pc := 15) 20 dX3_words_15 rfl (fun h => if_neg h) (fun h => if_pos h) (fun _ => ?_) (fun _ => ?_)
  · refine J_iconst (pc := 20) 0 dX3_words_20 (by decide) ?_
    refine J_istore_n (pc := 21) dX3_words_21 (by decide) ?_
    refine J_iconst (pc := 22) 1 dX3_words_22 (by decide) ?_
    refine J_istore_n (pc := 23) dX3_words_23 (by decide) ?_
    refine J_sub (A := [some (.ref 72), some (.int 0), some (.int 1), none, none]) ⟨rfl, ⟨rfl, ⟨rfl, trivial⟩⟩⟩ (t_m_words_L24 G _ ?_ FU 0 1 M2)
    · intro v6 M10
      refine J_aload_n (pc := 75) dX3_words_75 rfl ?_
      refine J_callV (pc := 76) (n := 0) (b := 72) (vs := []) (ci := 2) (fun l => C_m_wasRight l  M10) (lw_V q1332 q1334 qs68 q118 q1335) nmv_X3_wasRight rfl (by omega) (by decide) rfl (fun h => sh_k1 h 52 rfl) rfl (Nat.le_of_ble_eq_true rfl) dX3_words_76 (fun v7 M11 => ?_)
      refine J_if_ne (pc := 79) 89 dX3_words_79 rfl (fun h => if_neg h) (fun h => if_pos h) (fun _ => ?_) (fun _ => ?_)
      · refine J_iconst (pc := 89) 0 dX3_words_89 (by decide) ?_
        refine J_istore_n (pc := 90) dX3_words_90 (by decide) ?_
        refine J_sub (A := [some (.ref 72), some (.int v6), none, some (.int 0), none]) ⟨rfl, ⟨rfl, ⟨rfl, trivial⟩⟩⟩ (t_m_words_L91 G v6 _ ?_ FU 0 M11)
        · intro M20
          refine J_aload_n (pc := 212) dX3_words_212 rfl ?_
          refine J_iconst (pc := 213) 0 dX3_words_213 (by decide) ?_
          refine J_put (pc := 214) (a := 72) (v := .int 0) (M' := M20.si 72 29 0) (c := 2) rfl in_X3 tyX3_ok fnX3 29 (by decide) q1136 rfl (Or.inl rfl) (fun h => sh_k1 h 52 rfl) (fun _ => rfl) (fun _ => rfl) ⟨⟨rfl, rfl⟩, rfl⟩ (fun _ hb => up2_same hb) (fun _ _ => rfl) (fun _ _ => rfl) (put_i (fun _ _ _ => rfl)) (fun h => Sh_si h) dX3_words_214 ?_
          refine J_ltM (fun M21 => ?_)
          refine J_aload_n (pc := 217) dX3_words_217 rfl ?_
          refine J_dup (pc := 218) dX3_words_218 rfl ?_
          refine J_get (pc := 219) (c := 2) (.int (M21.i 72 52)) rfl in_X3 52 (by decide) q1159 rfl (fun h => sh_k1 h 52 rfl) (fun _ _ => rfl) dX3_words_219 ?_
          refine J_iconst (pc := 222) 1 dX3_words_222 (by decide) ?_
          refine J_iadd (pc := 223) dX3_words_223 ?_
          refine J_put (pc := 224) (a := 72) (v := .int ((M21.i 72 52) + 1)) (M' := M21.si 72 52 ((M21.i 72 52) + 1)) (c := 2) rfl in_X3 tyX3_ok fnX3 52 (by decide) q1159 rfl (Or.inl rfl) (fun h => sh_k1 h 52 rfl) (fun _ => rfl) (fun _ => rfl) ⟨⟨rfl, rfl⟩, rfl⟩ (fun _ hb => up2_same hb) (fun _ _ => rfl) (fun _ _ => rfl) (put_i (fun _ _ _ => rfl)) (fun h => Sh_si h) dX3_words_224 ?_
          refine J_ltM (fun M22 => ?_)
          refine J_iload_n (pc := 227) dX3_words_227 rfl ?_
          exact J_iret (pc := 228) dX3_words_228
      · refine J_iconst (pc := 82) (-1) dX3_words_82 (by decide) ?_
        refine J_aload_n (pc := 83) dX3_words_83 rfl ?_
        refine J_get (pc := 84) (c := 2) (.int (M11.i 72 18)) rfl in_X3 18 (by decide) q1125 rfl (fun h => sh_k1 h 52 rfl) (fun _ _ => rfl) dX3_words_84 ?_
        refine J_isub (pc := 87) dX3_words_87 ?_
        exact J_iret (pc := 88) dX3_words_88
  · refine J_iconst (pc := 18) 0 dX3_words_18 (by decide) ?_
    exact J_iret (pc := 19) dX3_words_19

theorem C_m_words (l : Launch) (M : PM) : Ctr l Sh yX3_words cX3_words 5 (some .int) 5 rvI [.ref 72] M (m_words M) := Ctr.of (by decide +kernel) (Nat.le_of_ble_eq_true rfl) (fun G => t_m_words G M)

abbrev T_m_need (G : JG) (M : PM) (pc : Nat) (L : List (Option Value)) (S : List Value) (o : Option (Unit × PM)) : Prop := JJ G cX3_need yX3_need 2 3 none Sh (finR G Sh rvU) M pc L S o
def m_need (p1 : Int32) (M : PM) : Option (Unit × PM) :=
    bd (m_passes p1 M) fun v1 M1 =>
    if v1 = 0 then (bd (m_fault (M1.i 72 17) M1) fun _ M2 =>
    some ((), M2))
    else (some ((), M1))

set_option maxHeartbeats 4000000 in
theorem t_m_need (G : JG) (p1 : Int32) (M : PM) : T_m_need G  M 0 (ent [.ref 72, .int p1] 2) [] (m_need p1 M) := by
  unfold m_need
  refine J_aload_n (pc := 0) dX3_need_0 rfl ?_
  refine J_iload_n (pc := 1) dX3_need_1 rfl ?_
  refine J_callV (pc := 2) (n := 1) (b := 72) (vs := [.int p1]) (ci := 2) (fun l => C_m_passes l p1 M) (lw_V q1328 q1330 qs67 q118 q1331) nmv_X3_passes rfl (by omega) (by decide) rfl (fun h => sh_k1 h 52 rfl) rfl (Nat.le_of_ble_eq_true rfl) dX3_need_2 (fun v1 M1 => ?_)
  refine J_if_ne (pc := 5) 16 dX3_need_5 rfl (fun h => if_neg h) (fun h => if_pos h) (fun _ => ?_) (fun _ => ?_)
  · exact J_ret (pc := 16) dX3_need_16
  · refine J_aload_n (pc := 8) dX3_need_8 rfl ?_
    refine J_aload_n (pc := 9) dX3_need_9 rfl ?_
    refine J_get (pc := 10) (c := 2) (.int (M1.i 72 17)) rfl in_X3 17 (by decide) q1124 rfl (fun h => sh_k1 h 52 rfl) (fun _ _ => rfl) dX3_need_10 ?_
    refine J_callV (pc := 13) (n := 1) (b := 72) (vs := [.int (M1.i 72 17)]) (ci := 2) (fun l => C_m_fault l (M1.i 72 17) M1) (lw_V q1312 q1314 qs63 q118 q1315) nmv_X3_fault rfl (by omega) (by decide) rfl (fun h => sh_k1 h 52 rfl) rfl (Nat.le_of_ble_eq_true rfl) dX3_need_13 (fun _ M2 => ?_)
    exact J_ret (pc := 16) dX3_need_16

theorem C_m_need (l : Launch) (p1 : Int32) (M : PM) : Ctr l Sh yX3_need cX3_need 2 none 3 rvU [.ref 72, .int p1] M (m_need p1 M) := Ctr.of (by decide +kernel) (Nat.le_of_ble_eq_true rfl) (fun G => t_m_need G p1 M)

abbrev T_m_number (G : JG) (M : PM) (pc : Nat) (L : List (Option Value)) (S : List Value) (o : Option (Int32 × PM)) : Prop := JJ G cX3_number yX3_number 4 4 (some .int) Sh (finR G Sh rvI) M pc L S o
def m_number_L11 (c1 : Int32) : Nat → Int32 → Int32 → PM → Option (Int32 × PM)
  | 0, _, _, _ => none
  | n + 1, v2, v3, M2 =>
    if c1 ≤ v3 then (some (v2, M2))
    else (bd (m_fine M2) fun v4 M3 =>
    if v4 = 0 then (some (v2, M3))
    else (bd (m_here M3) fun v5 M4 =>
    bd (m_in v5 48 57 M4) fun v6 M5 =>
    if v6 = 0 then (some (v2, M5))
    else (bd (m_oneOf 48 10 M5) fun v7 M6 =>
    lt ((10 * v2) + v7) fun v8 =>
    lt (v3 + 1) fun v9 =>
    m_number_L11 c1 n v8 v9 M6)))

set_option maxHeartbeats 4000000 in
theorem t_m_number_L11 (G : JG) (c1 : Int32) : ∀ (n : Nat) (v2 : Int32) (v3 : Int32) (M2 : PM), T_m_number G  M2 11 [some (.ref 72), some (.int c1), some (.int v2), some (.int v3)] [] (m_number_L11 c1 n v2 v3 M2) := by
  intro n
  induction n with
  | zero =>
    intro v2 v3 M2
    exact J_none
  | succ n ih =>
    intro v2 v3 M2
    rw [m_number_L11]
    refine J_iload_n (pc := 11) dX3_number_11 rfl ?_
    refine J_iload_n (pc := 12) dX3_number_12 rfl ?_
    refine J_icmp_ge (pc := 13) 57 dX3_number_13 rfl (fun h => if_pos h) (fun h => if_neg h) (fun _ => ?_) (fun _ => ?_)
    · refine J_iload_n (pc := 57) dX3_number_57 rfl ?_
      exact J_iret (pc := 58) dX3_number_58
    · refine J_aload_n (pc := 16) dX3_number_16 rfl ?_
      refine J_callV (pc := 17) (n := 0) (b := 72) (vs := []) (ci := 2) (fun l => C_m_fine l  M2) (lw_V q1308 q1310 qs62 q118 q1311) nmv_X3_fine rfl (by omega) (by decide) rfl (fun h => sh_k1 h 52 rfl) rfl (Nat.le_of_ble_eq_true rfl) dX3_number_17 (fun v4 M3 => ?_)
      refine J_if_eq (pc := 20) 57 dX3_number_20 rfl (fun h => if_pos h) (fun h => if_neg h) (fun _ => ?_) (fun _ => ?_)
      · refine J_iload_n (pc := 57) dX3_number_57 rfl ?_
        exact J_iret (pc := 58) dX3_number_58
      · refine J_aload_n (pc := 23) dX3_number_23 rfl ?_
        refine J_callV (pc := 24) (n := 0) (b := 72) (vs := []) (ci := 2) (fun l => C_m_here l  M3) (lw_V q1324 q1326 qs66 q118 q1327) nmv_X3_here rfl (by omega) (by decide) rfl (fun h => sh_k1 h 52 rfl) rfl (Nat.le_of_ble_eq_true rfl) dX3_number_24 (fun v5 M4 => ?_)
        refine J_bipush (pc := 27) 48 dX3_number_27 (by decide) ?_
        refine J_bipush (pc := 29) 57 dX3_number_29 (by decide) ?_
        refine J_callS (pc := 31) (n := 3) (vs := [.int v5, .int 48, .int 57]) (fun l => C_m_in l v5 48 57 M4) (lw_S q1289 q1290 q118 q1291) nmh_X3_in rfl (by omega) (by decide) rfl (Nat.le_of_ble_eq_true rfl) dX3_number_31 (fun v6 M5 => ?_)
        refine J_if_eq (pc := 34) 57 dX3_number_34 rfl (fun h => if_pos h) (fun h => if_neg h) (fun _ => ?_) (fun _ => ?_)
        · refine J_iload_n (pc := 57) dX3_number_57 rfl ?_
          exact J_iret (pc := 58) dX3_number_58
        · refine J_bipush (pc := 37) 10 dX3_number_37 (by decide) ?_
          refine J_iload_n (pc := 39) dX3_number_39 rfl ?_
          refine J_imul (pc := 40) dX3_number_40 ?_
          refine J_aload_n (pc := 41) dX3_number_41 rfl ?_
          refine J_bipush (pc := 42) 48 dX3_number_42 (by decide) ?_
          refine J_bipush (pc := 44) 10 dX3_number_44 (by decide) ?_
          refine J_callV (pc := 46) (n := 2) (b := 72) (vs := [.int 48, .int 10]) (ci := 2) (fun l => C_m_oneOf l 48 10 M5) (lw_V q1320 q1322 qs65 q118 q1323) nmv_X3_oneOf rfl (by omega) (by decide) rfl (fun h => sh_k1 h 52 rfl) rfl (Nat.le_of_ble_eq_true rfl) dX3_number_46 (fun v7 M6 => ?_)
          refine J_iadd (pc := 49) dX3_number_49 ?_
          refine J_lt (β := Int32) (v := ((10 * v2) + v7)) (L := fun _ => _) (S := fun v8 => [.int v8]) (fun v8 => ?_)
          refine J_istore_n (pc := 50) dX3_number_50 (by decide) ?_
          refine J_iincL (pc := 51) (n := 1) (by decide) dX3_number_51 rfl (by decide) (fun v9 => ?_)
          refine J_goto (pc := 54) 11 dX3_number_54 rfl ?_
          exact J_sub (A := [some (.ref 72), some (.int c1), some (.int v8), some (.int v9)]) ⟨rfl, ⟨rfl, ⟨rfl, ⟨rfl, trivial⟩⟩⟩⟩ (ih v8 v9 M6)

def m_number (p1 : Int32) (M : PM) : Option (Int32 × PM) :=
    bd (m_oneOf 48 10 M) fun v1 M1 =>
    m_number_L11 p1 FU v1 1 M1

set_option maxHeartbeats 4000000 in
theorem t_m_number (G : JG) (p1 : Int32) (M : PM) : T_m_number G  M 0 (ent [.ref 72, .int p1] 4) [] (m_number p1 M) := by
  unfold m_number
  refine J_aload_n (pc := 0) dX3_number_0 rfl ?_
  refine J_bipush (pc := 1) 48 dX3_number_1 (by decide) ?_
  refine J_bipush (pc := 3) 10 dX3_number_3 (by decide) ?_
  refine J_callV (pc := 5) (n := 2) (b := 72) (vs := [.int 48, .int 10]) (ci := 2) (fun l => C_m_oneOf l 48 10 M) (lw_V q1320 q1322 qs65 q118 q1323) nmv_X3_oneOf rfl (by omega) (by decide) rfl (fun h => sh_k1 h 52 rfl) rfl (Nat.le_of_ble_eq_true rfl) dX3_number_5 (fun v1 M1 => ?_)
  refine J_istore_n (pc := 8) dX3_number_8 (by decide) ?_
  refine J_iconst (pc := 9) 1 dX3_number_9 (by decide) ?_
  refine J_istore_n (pc := 10) dX3_number_10 (by decide) ?_
  refine J_sub (A := [some (.ref 72), some (.int p1), some (.int v1), some (.int 1)]) ⟨rfl, ⟨rfl, ⟨rfl, ⟨rfl, trivial⟩⟩⟩⟩ (t_m_number_L11 G p1  FU v1 1 M1)

theorem C_m_number (l : Launch) (p1 : Int32) (M : PM) : Ctr l Sh yX3_number cX3_number 4 (some .int) 4 rvI [.ref 72, .int p1] M (m_number p1 M) := Ctr.of (by decide +kernel) (Nat.le_of_ble_eq_true rfl) (fun G => t_m_number G p1 M)

abbrev T_m_travellers (G : JG) (M : PM) (pc : Nat) (L : List (Option Value)) (S : List Value) (o : Option (Int32 × PM)) : Prop := JJ G cX3_travellers yX3_travellers 4 5 (some .int) Sh (finR G Sh rvI) M pc L S o
def m_travellers_L24 (k108 : Int32 → PM → Option (Int32 × PM)) : Nat → Int32 → Int32 → PM → Option (Int32 × PM)
  | 0, _, _, _ => none
  | n + 1, v1, v2, M3 =>
    jn (fun (M4 : PM) =>
    k108 v1 M4) fun j1 =>
    if v2 = 0 then (j1 M3)
    else (bd (m_fine M3) fun v3 M5 =>
    if v3 = 0 then (j1 M5)
    else (jn (fun (M6 : PM) =>
    lt (v1 + 1) fun v4 =>
    bd (m_passes 59 M6) fun v5 M7 =>
    m_travellers_L24 k108 n v4 v5 M7) fun j2 =>
    if ((M5.i 72 6) + v1) = 4 then (bd (m_fault (M5.i 72 17) M5) fun _ M13 =>
    j2 M13)
    else (bd (m_oneOf 48 (M5.i 72 1) M5) fun v6 M8 =>
    ck (2 * v1) 40 <|
    lt (M8.si 82 (ix (2 * v1)) v6) fun M9 =>
    bd (m_need 58 M9) fun _ M10 =>
    bd (m_number 3 M10) fun v7 M11 =>
    ck ((2 * v1) + 1) 40 <|
    lt (M11.si 82 (ix ((2 * v1) + 1)) v7) fun M12 =>
    j2 M12)))

set_option maxHeartbeats 4000000 in
theorem t_m_travellers_L24 (G : JG) (k108 : Int32 → PM → Option (Int32 × PM)) (hk108 : ∀ z1 Me, T_m_travellers G  Me 108 [some (.ref 72), some (.int z1), none, none] [] (k108 z1 Me)) : ∀ (n : Nat) (v1 : Int32) (v2 : Int32) (M3 : PM), T_m_travellers G  M3 24 [some (.ref 72), some (.int v1), some (.int v2), none] [] (m_travellers_L24 k108 n v1 v2 M3) := by
  intro n
  induction n with
  | zero =>
    intro v1 v2 M3
    exact J_none
  | succ n ih =>
    intro v1 v2 M3
    rw [m_travellers_L24]
    refine J_iload_n (pc := 24) dX3_travellers_24 rfl ?_
    refine J_jn (P := fun J => ∀ (M4 : PM), T_m_travellers G  M4 108 [some (.ref 72), some (.int v1), none, none] [] (J M4)) (fun M4 => ?_) (fun j1 hj1 => ?_)
    · exact J_sub (A := [some (.ref 72), some (.int v1), none, none]) ⟨rfl, ⟨rfl, trivial⟩⟩ (hk108 v1 M4)
    refine J_if_eq (pc := 25) 108 dX3_travellers_25 rfl (fun h => if_pos h) (fun h => if_neg h) (fun _ => ?_) (fun _ => ?_)
    · exact J_sub (A := [some (.ref 72), some (.int v1), none, none]) ⟨rfl, ⟨rfl, trivial⟩⟩ (hj1 M3)
    · refine J_aload_n (pc := 28) dX3_travellers_28 rfl ?_
      refine J_callV (pc := 29) (n := 0) (b := 72) (vs := []) (ci := 2) (fun l => C_m_fine l  M3) (lw_V q1308 q1310 qs62 q118 q1311) nmv_X3_fine rfl (by omega) (by decide) rfl (fun h => sh_k1 h 52 rfl) rfl (Nat.le_of_ble_eq_true rfl) dX3_travellers_29 (fun v3 M5 => ?_)
      refine J_if_eq (pc := 32) 108 dX3_travellers_32 rfl (fun h => if_pos h) (fun h => if_neg h) (fun _ => ?_) (fun _ => ?_)
      · exact J_sub (A := [some (.ref 72), some (.int v1), none, none]) ⟨rfl, ⟨rfl, trivial⟩⟩ (hj1 M5)
      · refine J_aload_n (pc := 35) dX3_travellers_35 rfl ?_
        refine J_get (pc := 36) (c := 2) (.int (M5.i 72 6)) rfl in_X3 6 (by decide) q1113 rfl (fun h => sh_k1 h 52 rfl) (fun _ _ => rfl) dX3_travellers_36 ?_
        refine J_iload_n (pc := 39) dX3_travellers_39 rfl ?_
        refine J_iadd (pc := 40) dX3_travellers_40 ?_
        refine J_iconst (pc := 41) 4 dX3_travellers_41 (by decide) ?_
        refine J_jn (P := fun J => ∀ (M6 : PM), T_m_travellers G  M6 95 [some (.ref 72), some (.int v1), none, none] [] (J M6)) (fun M6 => ?_) (fun j2 hj2 => ?_)
        · refine J_iincL (pc := 95) (n := 1) (by decide) dX3_travellers_95 rfl (by decide) (fun v4 => ?_)
          refine J_aload_n (pc := 98) dX3_travellers_98 rfl ?_
          refine J_bipush (pc := 99) 59 dX3_travellers_99 (by decide) ?_
          refine J_callV (pc := 101) (n := 1) (b := 72) (vs := [.int 59]) (ci := 2) (fun l => C_m_passes l 59 M6) (lw_V q1328 q1330 qs67 q118 q1331) nmv_X3_passes rfl (by omega) (by decide) rfl (fun h => sh_k1 h 52 rfl) rfl (Nat.le_of_ble_eq_true rfl) dX3_travellers_101 (fun v5 M7 => ?_)
          refine J_istore_n (pc := 104) dX3_travellers_104 (by decide) ?_
          refine J_goto (pc := 105) 24 dX3_travellers_105 rfl ?_
          exact J_sub (A := [some (.ref 72), some (.int v4), some (.int v5), none]) ⟨rfl, ⟨rfl, ⟨rfl, trivial⟩⟩⟩ (ih v4 v5 M7)
        refine J_icmp_ne (pc := 42) 56 dX3_travellers_42 rfl (fun h => if_neg h) (fun h => if_pos h) (fun _ => ?_) (fun _ => ?_)
        · refine J_aload_n (pc := 56) dX3_travellers_56 rfl ?_
          refine J_get (pc := 57) (c := 2) (.ref 82) rfl in_X3 21 (by decide) q1128 rfl (fun h => sh_k1 h 52 rfl) (fun h _ => fv_ref (Or.inr ⟨_, rfl⟩) (sh_r h 60 rfl)) dX3_travellers_57 ?_
          refine J_iconst (pc := 60) 2 dX3_travellers_60 (by decide) ?_
          refine J_iload_n (pc := 61) dX3_travellers_61 rfl ?_
          refine J_imul (pc := 62) dX3_travellers_62 ?_
          refine J_aload_n (pc := 63) dX3_travellers_63 rfl ?_
          refine J_bipush (pc := 64) 48 dX3_travellers_64 (by decide) ?_
          refine J_aload_n (pc := 66) dX3_travellers_66 rfl ?_
          refine J_get (pc := 67) (c := 2) (.int (M5.i 72 1)) rfl in_X3 1 (by decide) q1108 rfl (fun h => sh_k1 h 52 rfl) (fun _ _ => rfl) dX3_travellers_67 ?_
          refine J_callV (pc := 70) (n := 2) (b := 72) (vs := [.int 48, .int (M5.i 72 1)]) (ci := 2) (fun l => C_m_oneOf l 48 (M5.i 72 1) M5) (lw_V q1320 q1322 qs65 q118 q1323) nmv_X3_oneOf rfl (by omega) (by decide) rfl (fun h => sh_k1 h 52 rfl) rfl (Nat.le_of_ble_eq_true rfl) dX3_travellers_70 (fun v6 M8 => ?_)
          refine J_ck (fun h1 => ?_)
          refine J_iast (pc := 73) (a := 82) (fun h => sh_a h 62 rfl h1) (fun h => Sh_si h) dX3_travellers_73 ?_
          refine J_ltM (fun M9 => ?_)
          refine J_aload_n (pc := 74) dX3_travellers_74 rfl ?_
          refine J_bipush (pc := 75) 58 dX3_travellers_75 (by decide) ?_
          refine J_callV (pc := 77) (n := 1) (b := 72) (vs := [.int 58]) (ci := 2) (fun l => C_m_need l 58 M9) (lw_V q1340 q1342 qs69 q118 q1343) nmv_X3_need rfl (by omega) (by decide) rfl (fun h => sh_k1 h 52 rfl) rfl (Nat.le_of_ble_eq_true rfl) dX3_travellers_77 (fun _ M10 => ?_)
          refine J_aload_n (pc := 80) dX3_travellers_80 rfl ?_
          refine J_get (pc := 81) (c := 2) (.ref 82) rfl in_X3 21 (by decide) q1128 rfl (fun h => sh_k1 h 52 rfl) (fun h _ => fv_ref (Or.inr ⟨_, rfl⟩) (sh_r h 60 rfl)) dX3_travellers_81 ?_
          refine J_iconst (pc := 84) 2 dX3_travellers_84 (by decide) ?_
          refine J_iload_n (pc := 85) dX3_travellers_85 rfl ?_
          refine J_imul (pc := 86) dX3_travellers_86 ?_
          refine J_iconst (pc := 87) 1 dX3_travellers_87 (by decide) ?_
          refine J_iadd (pc := 88) dX3_travellers_88 ?_
          refine J_aload_n (pc := 89) dX3_travellers_89 rfl ?_
          refine J_iconst (pc := 90) 3 dX3_travellers_90 (by decide) ?_
          refine J_callV (pc := 91) (n := 1) (b := 72) (vs := [.int 3]) (ci := 2) (fun l => C_m_number l 3 M10) (lw_V q1344 q1346 qs70 q118 q1347) nmv_X3_number rfl (by omega) (by decide) rfl (fun h => sh_k1 h 52 rfl) rfl (Nat.le_of_ble_eq_true rfl) dX3_travellers_91 (fun v7 M11 => ?_)
          refine J_ck (fun h2 => ?_)
          refine J_iast (pc := 94) (a := 82) (fun h => sh_a h 62 rfl h2) (fun h => Sh_si h) dX3_travellers_94 ?_
          refine J_ltM (fun M12 => ?_)
          exact J_sub (A := [some (.ref 72), some (.int v1), none, none]) ⟨rfl, ⟨rfl, trivial⟩⟩ (hj2 M12)
        · refine J_aload_n (pc := 45) dX3_travellers_45 rfl ?_
          refine J_aload_n (pc := 46) dX3_travellers_46 rfl ?_
          refine J_get (pc := 47) (c := 2) (.int (M5.i 72 17)) rfl in_X3 17 (by decide) q1124 rfl (fun h => sh_k1 h 52 rfl) (fun _ _ => rfl) dX3_travellers_47 ?_
          refine J_callV (pc := 50) (n := 1) (b := 72) (vs := [.int (M5.i 72 17)]) (ci := 2) (fun l => C_m_fault l (M5.i 72 17) M5) (lw_V q1312 q1314 qs63 q118 q1315) nmv_X3_fault rfl (by omega) (by decide) rfl (fun h => sh_k1 h 52 rfl) rfl (Nat.le_of_ble_eq_true rfl) dX3_travellers_50 (fun _ M13 => ?_)
          refine J_goto (pc := 53) 95 dX3_travellers_53 rfl ?_
          exact J_sub (A := [some (.ref 72), some (.int v1), none, none]) ⟨rfl, ⟨rfl, trivial⟩⟩ (hj2 M13)

def m_travellers_L124 (c1 : Int32) (k196 : PM → Option (Int32 × PM)) : Nat → Int32 → PM → Option (Int32 × PM)
  | 0, _, _ => none
  | n + 1, v10, M16 =>
    if c1 ≤ v10 then (k196 M16)
    else (ck (2 * v10) 40 <|
    ck (M16.i 72 6) 44 <|
    lt (M16.si 73 (ix (M16.i 72 6)) (M16.i 82 (ix (2 * v10)))) fun M17 =>
    ck ((2 * v10) + 1) 40 <|
    ck (4 + (M17.i 72 6)) 44 <|
    lt (M17.si 73 (ix (4 + (M17.i 72 6))) (M17.i 82 (ix ((2 * v10) + 1)))) fun M18 =>
    ck (8 + (M18.i 72 6)) 44 <|
    lt (M18.si 73 (ix (8 + (M18.i 72 6))) 0) fun M19 =>
    lt (M19.si 72 6 ((M19.i 72 6) + 1)) fun M20 =>
    lt (v10 + 1) fun v11 =>
    m_travellers_L124 c1 k196 n v11 M20)

set_option maxHeartbeats 4000000 in
theorem t_m_travellers_L124 (G : JG) (c1 : Int32) (k196 : PM → Option (Int32 × PM)) (hk196 : ∀ Me, T_m_travellers G  Me 196 [some (.ref 72), some (.int c1), none, none] [] (k196 Me)) : ∀ (n : Nat) (v10 : Int32) (M16 : PM), T_m_travellers G  M16 124 [some (.ref 72), some (.int c1), none, some (.int v10)] [] (m_travellers_L124 c1 k196 n v10 M16) := by
  intro n
  induction n with
  | zero =>
    intro v10 M16
    exact J_none
  | succ n ih =>
    intro v10 M16
    rw [m_travellers_L124]
    refine J_iload_n (pc := 124) dX3_travellers_124 rfl ?_
    refine J_iload_n (pc := 125) dX3_travellers_125 rfl ?_
    refine J_icmp_ge (pc := 126) 196 dX3_travellers_126 rfl (fun h => if_pos h) (fun h => if_neg h) (fun _ => ?_) (fun _ => ?_)
    · exact J_sub (A := [some (.ref 72), some (.int c1), none, none]) ⟨rfl, ⟨rfl, trivial⟩⟩ (hk196 M16)
    · refine J_aload_n (pc := 129) dX3_travellers_129 rfl ?_
      refine J_get (pc := 130) (c := 2) (.ref 73) rfl in_X3 0 (by decide) q1107 rfl (fun h => sh_k1 h 52 rfl) (fun h _ => fv_ref (Or.inr ⟨_, rfl⟩) (sh_r h 51 rfl)) dX3_travellers_130 ?_
      refine J_aload_n (pc := 133) dX3_travellers_133 rfl ?_
      refine J_get (pc := 134) (c := 2) (.int (M16.i 72 6)) rfl in_X3 6 (by decide) q1113 rfl (fun h => sh_k1 h 52 rfl) (fun _ _ => rfl) dX3_travellers_134 ?_
      refine J_aload_n (pc := 137) dX3_travellers_137 rfl ?_
      refine J_get (pc := 138) (c := 2) (.ref 82) rfl in_X3 21 (by decide) q1128 rfl (fun h => sh_k1 h 52 rfl) (fun h _ => fv_ref (Or.inr ⟨_, rfl⟩) (sh_r h 60 rfl)) dX3_travellers_138 ?_
      refine J_iconst (pc := 141) 2 dX3_travellers_141 (by decide) ?_
      refine J_iload_n (pc := 142) dX3_travellers_142 rfl ?_
      refine J_imul (pc := 143) dX3_travellers_143 ?_
      refine J_ck (fun h3 => ?_)
      refine J_iald (pc := 144) (a := 82) (fun h => sh_a h 62 rfl h3) dX3_travellers_144 ?_
      refine J_ck (fun h4 => ?_)
      refine J_iast (pc := 145) (a := 73) (fun h => sh_a h 53 rfl h4) (fun h => Sh_si h) dX3_travellers_145 ?_
      refine J_ltM (fun M17 => ?_)
      refine J_aload_n (pc := 146) dX3_travellers_146 rfl ?_
      refine J_get (pc := 147) (c := 2) (.ref 73) rfl in_X3 0 (by decide) q1107 rfl (fun h => sh_k1 h 52 rfl) (fun h _ => fv_ref (Or.inr ⟨_, rfl⟩) (sh_r h 51 rfl)) dX3_travellers_147 ?_
      refine J_iconst (pc := 150) 4 dX3_travellers_150 (by decide) ?_
      refine J_aload_n (pc := 151) dX3_travellers_151 rfl ?_
      refine J_get (pc := 152) (c := 2) (.int (M17.i 72 6)) rfl in_X3 6 (by decide) q1113 rfl (fun h => sh_k1 h 52 rfl) (fun _ _ => rfl) dX3_travellers_152 ?_
      refine J_iadd (pc := 155) dX3_travellers_155 ?_
      refine J_aload_n (pc := 156) dX3_travellers_156 rfl ?_
      refine J_get (pc := 157) (c := 2) (.ref 82) rfl in_X3 21 (by decide) q1128 rfl (fun h => sh_k1 h 52 rfl) (fun h _ => fv_ref (Or.inr ⟨_, rfl⟩) (sh_r h 60 rfl)) dX3_travellers_157 ?_
      refine J_iconst (pc := 160) 2 dX3_travellers_160 (by decide) ?_
      refine J_iload_n (pc := 161) dX3_travellers_161 rfl ?_
      refine J_imul (pc := 162) dX3_travellers_162 ?_
      refine J_iconst (pc := 163) 1 dX3_travellers_163 (by decide) ?_
      refine J_iadd (pc := 164) dX3_travellers_164 ?_
      refine J_ck (fun h5 => ?_)
      refine J_iald (pc := 165) (a := 82) (fun h => sh_a h 62 rfl h5) dX3_travellers_165 ?_
      refine J_ck (fun h6 => ?_)
      refine J_iast (pc := 166) (a := 73) (fun h => sh_a h 53 rfl h6) (fun h => Sh_si h) dX3_travellers_166 ?_
      refine J_ltM (fun M18 => ?_)
      refine J_aload_n (pc := 167) dX3_travellers_167 rfl ?_
      refine J_get (pc := 168) (c := 2) (.ref 73) rfl in_X3 0 (by decide) q1107 rfl (fun h => sh_k1 h 52 rfl) (fun h _ => fv_ref (Or.inr ⟨_, rfl⟩) (sh_r h 51 rfl)) dX3_travellers_168 ?_
      refine J_bipush (pc := 171) 8 dX3_travellers_171 (by decide) ?_
      refine J_aload_n (pc := 173) dX3_travellers_173 rfl ?_
      refine J_get (pc := 174) (c := 2) (.int (M18.i 72 6)) rfl in_X3 6 (by decide) q1113 rfl (fun h => sh_k1 h 52 rfl) (fun _ _ => rfl) dX3_travellers_174 ?_
      refine J_iadd (pc := 177) dX3_travellers_177 ?_
      refine J_iconst (pc := 178) 0 dX3_travellers_178 (by decide) ?_
      refine J_ck (fun h7 => ?_)
      refine J_iast (pc := 179) (a := 73) (fun h => sh_a h 53 rfl h7) (fun h => Sh_si h) dX3_travellers_179 ?_
      refine J_ltM (fun M19 => ?_)
      refine J_aload_n (pc := 180) dX3_travellers_180 rfl ?_
      refine J_dup (pc := 181) dX3_travellers_181 rfl ?_
      refine J_get (pc := 182) (c := 2) (.int (M19.i 72 6)) rfl in_X3 6 (by decide) q1113 rfl (fun h => sh_k1 h 52 rfl) (fun _ _ => rfl) dX3_travellers_182 ?_
      refine J_iconst (pc := 185) 1 dX3_travellers_185 (by decide) ?_
      refine J_iadd (pc := 186) dX3_travellers_186 ?_
      refine J_put (pc := 187) (a := 72) (v := .int ((M19.i 72 6) + 1)) (M' := M19.si 72 6 ((M19.i 72 6) + 1)) (c := 2) rfl in_X3 tyX3_ok fnX3 6 (by decide) q1113 rfl (Or.inl rfl) (fun h => sh_k1 h 52 rfl) (fun _ => rfl) (fun _ => rfl) ⟨⟨rfl, rfl⟩, rfl⟩ (fun _ hb => up2_same hb) (fun _ _ => rfl) (fun _ _ => rfl) (put_i (fun _ _ _ => rfl)) (fun h => Sh_si h) dX3_travellers_187 ?_
      refine J_ltM (fun M20 => ?_)
      refine J_iincL (pc := 190) (n := 1) (by decide) dX3_travellers_190 rfl (by decide) (fun v11 => ?_)
      refine J_goto (pc := 193) 124 dX3_travellers_193 rfl ?_
      exact J_sub (A := [some (.ref 72), some (.int c1), none, some (.int v11)]) ⟨rfl, ⟨rfl, ⟨rfl, trivial⟩⟩⟩ (ih v11 M20)

def m_travellers (M : PM) : Option (Int32 × PM) :=
    lt (M.si 72 13 0) fun M1 =>
    bd (m_beginText 40 M1) fun _ M2 =>
    if (M2.i 72 15) = 0 then (some (0, M2))
    else (m_travellers_L24 (fun (v8 : Int32) (M14 : PM) =>
    bd (m_wasRight M14) fun v9 M15 =>
    if v9 = 0 then (some (((-1) - (M15.i 72 18)), M15))
    else (m_travellers_L124 v8 (fun (M21 : PM) =>
    lt (M21.si 72 29 0) fun M22 =>
    lt (M22.si 72 52 ((M22.i 72 52) + 1)) fun M23 =>
    some (v8, M23)) FU 0 M15)) FU 0 1 M2)

set_option maxHeartbeats 4000000 in
theorem t_m_travellers (G : JG) (M : PM) : T_m_travellers G  M 0 (ent [.ref 72] 4) [] (m_travellers M) := by
  unfold m_travellers
  refine J_aload_n (pc := 0) dX3_travellers_0 rfl ?_
  refine J_iconst (pc := 1) 0 dX3_travellers_1 (by decide) ?_
  refine J_put (pc := 2) (a := 72) (v := .int 0) (M' := M.si 72 13 0) (c := 2) rfl in_X3 tyX3_ok fnX3 13 (by decide) q1120 rfl (Or.inl rfl) (fun h => sh_k1 h 52 rfl) (fun _ => rfl) (fun _ => rfl) ⟨⟨rfl, rfl⟩, rfl⟩ (fun _ hb => up2_same hb) (fun _ _ => rfl) (fun _ _ => rfl) (put_i (fun _ _ _ => rfl)) (fun h => Sh_si h) dX3_travellers_2 ?_
  refine J_ltM (fun M1 => ?_)
  refine J_aload_n (pc := 5) dX3_travellers_5 rfl ?_
  refine J_bipush (pc := 6) 40 dX3_travellers_6 (by decide) ?_
  refine J_callV (pc := 8) (n := 1) (b := 72) (vs := [.int 40]) (ci := 2) (fun l => C_m_beginText l 40 M1) (lw_V q1300 q1302 qs60 q118 q1303) nmv_X3_beginText rfl (by omega) (by decide) rfl (fun h => sh_k1 h 52 rfl) rfl (Nat.le_of_ble_eq_true rfl) dX3_travellers_8 (fun _ M2 => ?_)
  refine J_aload_n (pc := 11) dX3_travellers_11 rfl ?_
  refine J_get (pc := 12) (c := 2) (.int (M2.i 72 15)) rfl in_X3 15 (by decide) q1122 rfl (fun h => sh_k1 h 52 rfl) (fun _ _ => rfl) dX3_travellers_12 ?_
  refine J_if_ne (pc := 15) 20 dX3_travellers_15 rfl (fun h => if_neg h) (fun h => if_pos h) (fun _ => ?_) (fun _ => ?_)
  · refine J_iconst (pc := 20) 0 dX3_travellers_20 (by decide) ?_
    refine J_istore_n (pc := 21) dX3_travellers_21 (by decide) ?_
    refine J_iconst (pc := 22) 1 dX3_travellers_22 (by decide) ?_
    refine J_istore_n (pc := 23) dX3_travellers_23 (by decide) ?_
    refine J_sub (A := [some (.ref 72), some (.int 0), some (.int 1), none]) ⟨rfl, ⟨rfl, ⟨rfl, trivial⟩⟩⟩ (t_m_travellers_L24 G _ ?_ FU 0 1 M2)
    · intro v8 M14
      refine J_aload_n (pc := 108) dX3_travellers_108 rfl ?_
      refine J_callV (pc := 109) (n := 0) (b := 72) (vs := []) (ci := 2) (fun l => C_m_wasRight l  M14) (lw_V q1332 q1334 qs68 q118 q1335) nmv_X3_wasRight rfl (by omega) (by decide) rfl (fun h => sh_k1 h 52 rfl) rfl (Nat.le_of_ble_eq_true rfl) dX3_travellers_109 (fun v9 M15 => ?_)
      refine J_if_ne (pc := 112) 122 dX3_travellers_112 rfl (fun h => if_neg h) (fun h => if_pos h) (fun _ => ?_) (fun _ => ?_)
      · refine J_iconst (pc := 122) 0 dX3_travellers_122 (by decide) ?_
        refine J_istore_n (pc := 123) dX3_travellers_123 (by decide) ?_
        refine J_sub (A := [some (.ref 72), some (.int v8), none, some (.int 0)]) ⟨rfl, ⟨rfl, ⟨rfl, trivial⟩⟩⟩ (t_m_travellers_L124 G v8 _ ?_ FU 0 M15)
        · intro M21
          refine J_aload_n (pc := 196) dX3_travellers_196 rfl ?_
          refine J_iconst (pc := 197) 0 dX3_travellers_197 (by decide) ?_
          refine J_put (pc := 198) (a := 72) (v := .int 0) (M' := M21.si 72 29 0) (c := 2) rfl in_X3 tyX3_ok fnX3 29 (by decide) q1136 rfl (Or.inl rfl) (fun h => sh_k1 h 52 rfl) (fun _ => rfl) (fun _ => rfl) ⟨⟨rfl, rfl⟩, rfl⟩ (fun _ hb => up2_same hb) (fun _ _ => rfl) (fun _ _ => rfl) (put_i (fun _ _ _ => rfl)) (fun h => Sh_si h) dX3_travellers_198 ?_
          refine J_ltM (fun M22 => ?_)
          refine J_aload_n (pc := 201) dX3_travellers_201 rfl ?_
          refine J_dup (pc := 202) dX3_travellers_202 rfl ?_
          refine J_get (pc := 203) (c := 2) (.int (M22.i 72 52)) rfl in_X3 52 (by decide) q1159 rfl (fun h => sh_k1 h 52 rfl) (fun _ _ => rfl) dX3_travellers_203 ?_
          refine J_iconst (pc := 206) 1 dX3_travellers_206 (by decide) ?_
          refine J_iadd (pc := 207) dX3_travellers_207 ?_
          refine J_put (pc := 208) (a := 72) (v := .int ((M22.i 72 52) + 1)) (M' := M22.si 72 52 ((M22.i 72 52) + 1)) (c := 2) rfl in_X3 tyX3_ok fnX3 52 (by decide) q1159 rfl (Or.inl rfl) (fun h => sh_k1 h 52 rfl) (fun _ => rfl) (fun _ => rfl) ⟨⟨rfl, rfl⟩, rfl⟩ (fun _ hb => up2_same hb) (fun _ _ => rfl) (fun _ _ => rfl) (put_i (fun _ _ _ => rfl)) (fun h => Sh_si h) dX3_travellers_208 ?_
          refine J_ltM (fun M23 => ?_)
          refine J_iload_n (pc := 211) dX3_travellers_211 rfl ?_
          exact J_iret (pc := 212) dX3_travellers_212
      · refine J_iconst (pc := 115) (-1) dX3_travellers_115 (by decide) ?_
        refine J_aload_n (pc := 116) dX3_travellers_116 rfl ?_
        refine J_get (pc := 117) (c := 2) (.int (M15.i 72 18)) rfl in_X3 18 (by decide) q1125 rfl (fun h => sh_k1 h 52 rfl) (fun _ _ => rfl) dX3_travellers_117 ?_
        refine J_isub (pc := 120) dX3_travellers_120 ?_
        exact J_iret (pc := 121) dX3_travellers_121
  · refine J_iconst (pc := 18) 0 dX3_travellers_18 (by decide) ?_
    exact J_iret (pc := 19) dX3_travellers_19

theorem C_m_travellers (l : Launch) (M : PM) : Ctr l Sh yX3_travellers cX3_travellers 4 (some .int) 5 rvI [.ref 72] M (m_travellers M) := Ctr.of (by decide +kernel) (Nat.le_of_ble_eq_true rfl) (fun G => t_m_travellers G M)

abbrev T_m_errands (G : JG) (M : PM) (pc : Nat) (L : List (Option Value)) (S : List Value) (o : Option (Int32 × PM)) : Prop := JJ G cX3_errands yX3_errands 4 5 (some .int) Sh (finR G Sh rvI) M pc L S o
def m_errands_L24 (k147 : Int32 → PM → Option (Int32 × PM)) : Nat → Int32 → Int32 → PM → Option (Int32 × PM)
  | 0, _, _, _ => none
  | n + 1, v1, v2, M3 =>
    jn (fun (M4 : PM) =>
    k147 v1 M4) fun j1 =>
    if v2 = 0 then (j1 M3)
    else (bd (m_fine M3) fun v3 M5 =>
    if v3 = 0 then (j1 M5)
    else (jn (fun (M6 : PM) =>
    lt (v1 + 1) fun v4 =>
    bd (m_passes 59 M6) fun v5 M7 =>
    m_errands_L24 k147 n v4 v5 M7) fun j2 =>
    if ((M5.i 72 7) + v1) = 8 then (bd (m_fault (M5.i 72 17) M5) fun _ M17 =>
    j2 M17)
    else (bd (m_oneOf 97 (M5.i 72 6) M5) fun v6 M8 =>
    ck (4 * v1) 40 <|
    lt (M8.si 82 (ix (4 * v1)) v6) fun M9 =>
    bd (m_oneOf 48 10 M9) fun v7 M10 =>
    ck ((4 * v1) + 1) 40 <|
    lt (M10.si 82 (ix ((4 * v1) + 1)) v7) fun M11 =>
    bd (m_oneOf 48 (M11.i 72 1) M11) fun v8 M12 =>
    ck ((4 * v1) + 2) 40 <|
    lt (M12.si 82 (ix ((4 * v1) + 2)) v8) fun M13 =>
    bd (m_need 61 M13) fun _ M14 =>
    bd (m_number 2 M14) fun v9 M15 =>
    ck ((4 * v1) + 3) 40 <|
    lt (M15.si 82 (ix ((4 * v1) + 3)) v9) fun M16 =>
    j2 M16)))

set_option maxHeartbeats 4000000 in
theorem t_m_errands_L24 (G : JG) (k147 : Int32 → PM → Option (Int32 × PM)) (hk147 : ∀ z1 Me, T_m_errands G  Me 147 [some (.ref 72), some (.int z1), none, none] [] (k147 z1 Me)) : ∀ (n : Nat) (v1 : Int32) (v2 : Int32) (M3 : PM), T_m_errands G  M3 24 [some (.ref 72), some (.int v1), some (.int v2), none] [] (m_errands_L24 k147 n v1 v2 M3) := by
  intro n
  induction n with
  | zero =>
    intro v1 v2 M3
    exact J_none
  | succ n ih =>
    intro v1 v2 M3
    rw [m_errands_L24]
    refine J_iload_n (pc := 24) dX3_errands_24 rfl ?_
    refine J_jn (P := fun J => ∀ (M4 : PM), T_m_errands G  M4 147 [some (.ref 72), some (.int v1), none, none] [] (J M4)) (fun M4 => ?_) (fun j1 hj1 => ?_)
    · exact J_sub (A := [some (.ref 72), some (.int v1), none, none]) ⟨rfl, ⟨rfl, trivial⟩⟩ (hk147 v1 M4)
    refine J_if_eq (pc := 25) 147 dX3_errands_25 rfl (fun h => if_pos h) (fun h => if_neg h) (fun _ => ?_) (fun _ => ?_)
    · exact J_sub (A := [some (.ref 72), some (.int v1), none, none]) ⟨rfl, ⟨rfl, trivial⟩⟩ (hj1 M3)
    · refine J_aload_n (pc := 28) dX3_errands_28 rfl ?_
      refine J_callV (pc := 29) (n := 0) (b := 72) (vs := []) (ci := 2) (fun l => C_m_fine l  M3) (lw_V q1308 q1310 qs62 q118 q1311) nmv_X3_fine rfl (by omega) (by decide) rfl (fun h => sh_k1 h 52 rfl) rfl (Nat.le_of_ble_eq_true rfl) dX3_errands_29 (fun v3 M5 => ?_)
      refine J_if_eq (pc := 32) 147 dX3_errands_32 rfl (fun h => if_pos h) (fun h => if_neg h) (fun _ => ?_) (fun _ => ?_)
      · exact J_sub (A := [some (.ref 72), some (.int v1), none, none]) ⟨rfl, ⟨rfl, trivial⟩⟩ (hj1 M5)
      · refine J_aload_n (pc := 35) dX3_errands_35 rfl ?_
        refine J_get (pc := 36) (c := 2) (.int (M5.i 72 7)) rfl in_X3 7 (by decide) q1114 rfl (fun h => sh_k1 h 52 rfl) (fun _ _ => rfl) dX3_errands_36 ?_
        refine J_iload_n (pc := 39) dX3_errands_39 rfl ?_
        refine J_iadd (pc := 40) dX3_errands_40 ?_
        refine J_bipush (pc := 41) 8 dX3_errands_41 (by decide) ?_
        refine J_jn (P := fun J => ∀ (M6 : PM), T_m_errands G  M6 134 [some (.ref 72), some (.int v1), none, none] [] (J M6)) (fun M6 => ?_) (fun j2 hj2 => ?_)
        · refine J_iincL (pc := 134) (n := 1) (by decide) dX3_errands_134 rfl (by decide) (fun v4 => ?_)
          refine J_aload_n (pc := 137) dX3_errands_137 rfl ?_
          refine J_bipush (pc := 138) 59 dX3_errands_138 (by decide) ?_
          refine J_callV (pc := 140) (n := 1) (b := 72) (vs := [.int 59]) (ci := 2) (fun l => C_m_passes l 59 M6) (lw_V q1328 q1330 qs67 q118 q1331) nmv_X3_passes rfl (by omega) (by decide) rfl (fun h => sh_k1 h 52 rfl) rfl (Nat.le_of_ble_eq_true rfl) dX3_errands_140 (fun v5 M7 => ?_)
          refine J_istore_n (pc := 143) dX3_errands_143 (by decide) ?_
          refine J_goto (pc := 144) 24 dX3_errands_144 rfl ?_
          exact J_sub (A := [some (.ref 72), some (.int v4), some (.int v5), none]) ⟨rfl, ⟨rfl, ⟨rfl, trivial⟩⟩⟩ (ih v4 v5 M7)
        refine J_icmp_ne (pc := 43) 57 dX3_errands_43 rfl (fun h => if_neg h) (fun h => if_pos h) (fun _ => ?_) (fun _ => ?_)
        · refine J_aload_n (pc := 57) dX3_errands_57 rfl ?_
          refine J_get (pc := 58) (c := 2) (.ref 82) rfl in_X3 21 (by decide) q1128 rfl (fun h => sh_k1 h 52 rfl) (fun h _ => fv_ref (Or.inr ⟨_, rfl⟩) (sh_r h 60 rfl)) dX3_errands_58 ?_
          refine J_iconst (pc := 61) 4 dX3_errands_61 (by decide) ?_
          refine J_iload_n (pc := 62) dX3_errands_62 rfl ?_
          refine J_imul (pc := 63) dX3_errands_63 ?_
          refine J_aload_n (pc := 64) dX3_errands_64 rfl ?_
          refine J_bipush (pc := 65) 97 dX3_errands_65 (by decide) ?_
          refine J_aload_n (pc := 67) dX3_errands_67 rfl ?_
          refine J_get (pc := 68) (c := 2) (.int (M5.i 72 6)) rfl in_X3 6 (by decide) q1113 rfl (fun h => sh_k1 h 52 rfl) (fun _ _ => rfl) dX3_errands_68 ?_
          refine J_callV (pc := 71) (n := 2) (b := 72) (vs := [.int 97, .int (M5.i 72 6)]) (ci := 2) (fun l => C_m_oneOf l 97 (M5.i 72 6) M5) (lw_V q1320 q1322 qs65 q118 q1323) nmv_X3_oneOf rfl (by omega) (by decide) rfl (fun h => sh_k1 h 52 rfl) rfl (Nat.le_of_ble_eq_true rfl) dX3_errands_71 (fun v6 M8 => ?_)
          refine J_ck (fun h1 => ?_)
          refine J_iast (pc := 74) (a := 82) (fun h => sh_a h 62 rfl h1) (fun h => Sh_si h) dX3_errands_74 ?_
          refine J_ltM (fun M9 => ?_)
          refine J_aload_n (pc := 75) dX3_errands_75 rfl ?_
          refine J_get (pc := 76) (c := 2) (.ref 82) rfl in_X3 21 (by decide) q1128 rfl (fun h => sh_k1 h 52 rfl) (fun h _ => fv_ref (Or.inr ⟨_, rfl⟩) (sh_r h 60 rfl)) dX3_errands_76 ?_
          refine J_iconst (pc := 79) 4 dX3_errands_79 (by decide) ?_
          refine J_iload_n (pc := 80) dX3_errands_80 rfl ?_
          refine J_imul (pc := 81) dX3_errands_81 ?_
          refine J_iconst (pc := 82) 1 dX3_errands_82 (by decide) ?_
          refine J_iadd (pc := 83) dX3_errands_83 ?_
          refine J_aload_n (pc := 84) dX3_errands_84 rfl ?_
          refine J_bipush (pc := 85) 48 dX3_errands_85 (by decide) ?_
          refine J_bipush (pc := 87) 10 dX3_errands_87 (by decide) ?_
          refine J_callV (pc := 89) (n := 2) (b := 72) (vs := [.int 48, .int 10]) (ci := 2) (fun l => C_m_oneOf l 48 10 M9) (lw_V q1320 q1322 qs65 q118 q1323) nmv_X3_oneOf rfl (by omega) (by decide) rfl (fun h => sh_k1 h 52 rfl) rfl (Nat.le_of_ble_eq_true rfl) dX3_errands_89 (fun v7 M10 => ?_)
          refine J_ck (fun h2 => ?_)
          refine J_iast (pc := 92) (a := 82) (fun h => sh_a h 62 rfl h2) (fun h => Sh_si h) dX3_errands_92 ?_
          refine J_ltM (fun M11 => ?_)
          refine J_aload_n (pc := 93) dX3_errands_93 rfl ?_
          refine J_get (pc := 94) (c := 2) (.ref 82) rfl in_X3 21 (by decide) q1128 rfl (fun h => sh_k1 h 52 rfl) (fun h _ => fv_ref (Or.inr ⟨_, rfl⟩) (sh_r h 60 rfl)) dX3_errands_94 ?_
          refine J_iconst (pc := 97) 4 dX3_errands_97 (by decide) ?_
          refine J_iload_n (pc := 98) dX3_errands_98 rfl ?_
          refine J_imul (pc := 99) dX3_errands_99 ?_
          refine J_iconst (pc := 100) 2 dX3_errands_100 (by decide) ?_
          refine J_iadd (pc := 101) dX3_errands_101 ?_
          refine J_aload_n (pc := 102) dX3_errands_102 rfl ?_
          refine J_bipush (pc := 103) 48 dX3_errands_103 (by decide) ?_
          refine J_aload_n (pc := 105) dX3_errands_105 rfl ?_
          refine J_get (pc := 106) (c := 2) (.int (M11.i 72 1)) rfl in_X3 1 (by decide) q1108 rfl (fun h => sh_k1 h 52 rfl) (fun _ _ => rfl) dX3_errands_106 ?_
          refine J_callV (pc := 109) (n := 2) (b := 72) (vs := [.int 48, .int (M11.i 72 1)]) (ci := 2) (fun l => C_m_oneOf l 48 (M11.i 72 1) M11) (lw_V q1320 q1322 qs65 q118 q1323) nmv_X3_oneOf rfl (by omega) (by decide) rfl (fun h => sh_k1 h 52 rfl) rfl (Nat.le_of_ble_eq_true rfl) dX3_errands_109 (fun v8 M12 => ?_)
          refine J_ck (fun h3 => ?_)
          refine J_iast (pc := 112) (a := 82) (fun h => sh_a h 62 rfl h3) (fun h => Sh_si h) dX3_errands_112 ?_
          refine J_ltM (fun M13 => ?_)
          refine J_aload_n (pc := 113) dX3_errands_113 rfl ?_
          refine J_bipush (pc := 114) 61 dX3_errands_114 (by decide) ?_
          refine J_callV (pc := 116) (n := 1) (b := 72) (vs := [.int 61]) (ci := 2) (fun l => C_m_need l 61 M13) (lw_V q1340 q1342 qs69 q118 q1343) nmv_X3_need rfl (by omega) (by decide) rfl (fun h => sh_k1 h 52 rfl) rfl (Nat.le_of_ble_eq_true rfl) dX3_errands_116 (fun _ M14 => ?_)
          refine J_aload_n (pc := 119) dX3_errands_119 rfl ?_
          refine J_get (pc := 120) (c := 2) (.ref 82) rfl in_X3 21 (by decide) q1128 rfl (fun h => sh_k1 h 52 rfl) (fun h _ => fv_ref (Or.inr ⟨_, rfl⟩) (sh_r h 60 rfl)) dX3_errands_120 ?_
          refine J_iconst (pc := 123) 4 dX3_errands_123 (by decide) ?_
          refine J_iload_n (pc := 124) dX3_errands_124 rfl ?_
          refine J_imul (pc := 125) dX3_errands_125 ?_
          refine J_iconst (pc := 126) 3 dX3_errands_126 (by decide) ?_
          refine J_iadd (pc := 127) dX3_errands_127 ?_
          refine J_aload_n (pc := 128) dX3_errands_128 rfl ?_
          refine J_iconst (pc := 129) 2 dX3_errands_129 (by decide) ?_
          refine J_callV (pc := 130) (n := 1) (b := 72) (vs := [.int 2]) (ci := 2) (fun l => C_m_number l 2 M14) (lw_V q1344 q1346 qs70 q118 q1347) nmv_X3_number rfl (by omega) (by decide) rfl (fun h => sh_k1 h 52 rfl) rfl (Nat.le_of_ble_eq_true rfl) dX3_errands_130 (fun v9 M15 => ?_)
          refine J_ck (fun h4 => ?_)
          refine J_iast (pc := 133) (a := 82) (fun h => sh_a h 62 rfl h4) (fun h => Sh_si h) dX3_errands_133 ?_
          refine J_ltM (fun M16 => ?_)
          exact J_sub (A := [some (.ref 72), some (.int v1), none, none]) ⟨rfl, ⟨rfl, trivial⟩⟩ (hj2 M16)
        · refine J_aload_n (pc := 46) dX3_errands_46 rfl ?_
          refine J_aload_n (pc := 47) dX3_errands_47 rfl ?_
          refine J_get (pc := 48) (c := 2) (.int (M5.i 72 17)) rfl in_X3 17 (by decide) q1124 rfl (fun h => sh_k1 h 52 rfl) (fun _ _ => rfl) dX3_errands_48 ?_
          refine J_callV (pc := 51) (n := 1) (b := 72) (vs := [.int (M5.i 72 17)]) (ci := 2) (fun l => C_m_fault l (M5.i 72 17) M5) (lw_V q1312 q1314 qs63 q118 q1315) nmv_X3_fault rfl (by omega) (by decide) rfl (fun h => sh_k1 h 52 rfl) rfl (Nat.le_of_ble_eq_true rfl) dX3_errands_51 (fun _ M17 => ?_)
          refine J_goto (pc := 54) 134 dX3_errands_54 rfl ?_
          exact J_sub (A := [some (.ref 72), some (.int v1), none, none]) ⟨rfl, ⟨rfl, trivial⟩⟩ (hj2 M17)

def m_errands_L163 (c1 : Int32) (k195 : PM → Option (Int32 × PM)) : Nat → Int32 → PM → Option (Int32 × PM)
  | 0, _, _ => none
  | n + 1, v12, M20 =>
    if (4 * c1) ≤ v12 then (k195 M20)
    else (ck v12 40 <|
    ck ((4 * (M20.i 72 7)) + v12) 32 <|
    lt (M20.si 77 (ix ((4 * (M20.i 72 7)) + v12)) (M20.i 82 (ix v12))) fun M21 =>
    lt (v12 + 1) fun v13 =>
    m_errands_L163 c1 k195 n v13 M21)

set_option maxHeartbeats 4000000 in
theorem t_m_errands_L163 (G : JG) (c1 : Int32) (k195 : PM → Option (Int32 × PM)) (hk195 : ∀ Me, T_m_errands G  Me 195 [some (.ref 72), some (.int c1), none, none] [] (k195 Me)) : ∀ (n : Nat) (v12 : Int32) (M20 : PM), T_m_errands G  M20 163 [some (.ref 72), some (.int c1), none, some (.int v12)] [] (m_errands_L163 c1 k195 n v12 M20) := by
  intro n
  induction n with
  | zero =>
    intro v12 M20
    exact J_none
  | succ n ih =>
    intro v12 M20
    rw [m_errands_L163]
    refine J_iload_n (pc := 163) dX3_errands_163 rfl ?_
    refine J_iconst (pc := 164) 4 dX3_errands_164 (by decide) ?_
    refine J_iload_n (pc := 165) dX3_errands_165 rfl ?_
    refine J_imul (pc := 166) dX3_errands_166 ?_
    refine J_icmp_ge (pc := 167) 195 dX3_errands_167 rfl (fun h => if_pos h) (fun h => if_neg h) (fun _ => ?_) (fun _ => ?_)
    · exact J_sub (A := [some (.ref 72), some (.int c1), none, none]) ⟨rfl, ⟨rfl, trivial⟩⟩ (hk195 M20)
    · refine J_aload_n (pc := 170) dX3_errands_170 rfl ?_
      refine J_get (pc := 171) (c := 2) (.ref 77) rfl in_X3 8 (by decide) q1115 rfl (fun h => sh_k1 h 52 rfl) (fun h _ => fv_ref (Or.inr ⟨_, rfl⟩) (sh_r h 55 rfl)) dX3_errands_171 ?_
      refine J_iconst (pc := 174) 4 dX3_errands_174 (by decide) ?_
      refine J_aload_n (pc := 175) dX3_errands_175 rfl ?_
      refine J_get (pc := 176) (c := 2) (.int (M20.i 72 7)) rfl in_X3 7 (by decide) q1114 rfl (fun h => sh_k1 h 52 rfl) (fun _ _ => rfl) dX3_errands_176 ?_
      refine J_imul (pc := 179) dX3_errands_179 ?_
      refine J_iload_n (pc := 180) dX3_errands_180 rfl ?_
      refine J_iadd (pc := 181) dX3_errands_181 ?_
      refine J_aload_n (pc := 182) dX3_errands_182 rfl ?_
      refine J_get (pc := 183) (c := 2) (.ref 82) rfl in_X3 21 (by decide) q1128 rfl (fun h => sh_k1 h 52 rfl) (fun h _ => fv_ref (Or.inr ⟨_, rfl⟩) (sh_r h 60 rfl)) dX3_errands_183 ?_
      refine J_iload_n (pc := 186) dX3_errands_186 rfl ?_
      refine J_ck (fun h5 => ?_)
      refine J_iald (pc := 187) (a := 82) (fun h => sh_a h 62 rfl h5) dX3_errands_187 ?_
      refine J_ck (fun h6 => ?_)
      refine J_iast (pc := 188) (a := 77) (fun h => sh_a h 57 rfl h6) (fun h => Sh_si h) dX3_errands_188 ?_
      refine J_ltM (fun M21 => ?_)
      refine J_iincL (pc := 189) (n := 1) (by decide) dX3_errands_189 rfl (by decide) (fun v13 => ?_)
      refine J_goto (pc := 192) 163 dX3_errands_192 rfl ?_
      exact J_sub (A := [some (.ref 72), some (.int c1), none, some (.int v13)]) ⟨rfl, ⟨rfl, ⟨rfl, trivial⟩⟩⟩ (ih v13 M21)

def m_errands (M : PM) : Option (Int32 × PM) :=
    lt (M.si 72 13 0) fun M1 =>
    bd (m_beginText 76 M1) fun _ M2 =>
    if (M2.i 72 15) = 0 then (some (0, M2))
    else (m_errands_L24 (fun (v10 : Int32) (M18 : PM) =>
    bd (m_wasRight M18) fun v11 M19 =>
    if v11 = 0 then (some (((-1) - (M19.i 72 18)), M19))
    else (m_errands_L163 v10 (fun (M22 : PM) =>
    lt (M22.si 72 7 ((M22.i 72 7) + v10)) fun M23 =>
    lt (M23.si 72 29 0) fun M24 =>
    lt (M24.si 72 52 ((M24.i 72 52) + 1)) fun M25 =>
    some (v10, M25)) FU 0 M19)) FU 0 1 M2)

set_option maxHeartbeats 4000000 in
theorem t_m_errands (G : JG) (M : PM) : T_m_errands G  M 0 (ent [.ref 72] 4) [] (m_errands M) := by
  unfold m_errands
  refine J_aload_n (pc := 0) dX3_errands_0 rfl ?_
  refine J_iconst (pc := 1) 0 dX3_errands_1 (by decide) ?_
  refine J_put (pc := 2) (a := 72) (v := .int 0) (M' := M.si 72 13 0) (c := 2) rfl in_X3 tyX3_ok fnX3 13 (by decide) q1120 rfl (Or.inl rfl) (fun h => sh_k1 h 52 rfl) (fun _ => rfl) (fun _ => rfl) ⟨⟨rfl, rfl⟩, rfl⟩ (fun _ hb => up2_same hb) (fun _ _ => rfl) (fun _ _ => rfl) (put_i (fun _ _ _ => rfl)) (fun h => Sh_si h) dX3_errands_2 ?_
  refine J_ltM (fun M1 => ?_)
  refine J_aload_n (pc := 5) dX3_errands_5 rfl ?_
  refine J_bipush (pc := 6) 76 dX3_errands_6 (by decide) ?_
  refine J_callV (pc := 8) (n := 1) (b := 72) (vs := [.int 76]) (ci := 2) (fun l => C_m_beginText l 76 M1) (lw_V q1300 q1302 qs60 q118 q1303) nmv_X3_beginText rfl (by omega) (by decide) rfl (fun h => sh_k1 h 52 rfl) rfl (Nat.le_of_ble_eq_true rfl) dX3_errands_8 (fun _ M2 => ?_)
  refine J_aload_n (pc := 11) dX3_errands_11 rfl ?_
  refine J_get (pc := 12) (c := 2) (.int (M2.i 72 15)) rfl in_X3 15 (by decide) q1122 rfl (fun h => sh_k1 h 52 rfl) (fun _ _ => rfl) dX3_errands_12 ?_
  refine J_if_ne (pc := 15) 20 dX3_errands_15 rfl (fun h => if_neg h) (fun h => if_pos h) (fun _ => ?_) (fun _ => ?_)
  · refine J_iconst (pc := 20) 0 dX3_errands_20 (by decide) ?_
    refine J_istore_n (pc := 21) dX3_errands_21 (by decide) ?_
    refine J_iconst (pc := 22) 1 dX3_errands_22 (by decide) ?_
    refine J_istore_n (pc := 23) dX3_errands_23 (by decide) ?_
    refine J_sub (A := [some (.ref 72), some (.int 0), some (.int 1), none]) ⟨rfl, ⟨rfl, ⟨rfl, trivial⟩⟩⟩ (t_m_errands_L24 G _ ?_ FU 0 1 M2)
    · intro v10 M18
      refine J_aload_n (pc := 147) dX3_errands_147 rfl ?_
      refine J_callV (pc := 148) (n := 0) (b := 72) (vs := []) (ci := 2) (fun l => C_m_wasRight l  M18) (lw_V q1332 q1334 qs68 q118 q1335) nmv_X3_wasRight rfl (by omega) (by decide) rfl (fun h => sh_k1 h 52 rfl) rfl (Nat.le_of_ble_eq_true rfl) dX3_errands_148 (fun v11 M19 => ?_)
      refine J_if_ne (pc := 151) 161 dX3_errands_151 rfl (fun h => if_neg h) (fun h => if_pos h) (fun _ => ?_) (fun _ => ?_)
      · refine J_iconst (pc := 161) 0 dX3_errands_161 (by decide) ?_
        refine J_istore_n (pc := 162) dX3_errands_162 (by decide) ?_
        refine J_sub (A := [some (.ref 72), some (.int v10), none, some (.int 0)]) ⟨rfl, ⟨rfl, ⟨rfl, trivial⟩⟩⟩ (t_m_errands_L163 G v10 _ ?_ FU 0 M19)
        · intro M22
          refine J_aload_n (pc := 195) dX3_errands_195 rfl ?_
          refine J_dup (pc := 196) dX3_errands_196 rfl ?_
          refine J_get (pc := 197) (c := 2) (.int (M22.i 72 7)) rfl in_X3 7 (by decide) q1114 rfl (fun h => sh_k1 h 52 rfl) (fun _ _ => rfl) dX3_errands_197 ?_
          refine J_iload_n (pc := 200) dX3_errands_200 rfl ?_
          refine J_iadd (pc := 201) dX3_errands_201 ?_
          refine J_put (pc := 202) (a := 72) (v := .int ((M22.i 72 7) + v10)) (M' := M22.si 72 7 ((M22.i 72 7) + v10)) (c := 2) rfl in_X3 tyX3_ok fnX3 7 (by decide) q1114 rfl (Or.inl rfl) (fun h => sh_k1 h 52 rfl) (fun _ => rfl) (fun _ => rfl) ⟨⟨rfl, rfl⟩, rfl⟩ (fun _ hb => up2_same hb) (fun _ _ => rfl) (fun _ _ => rfl) (put_i (fun _ _ _ => rfl)) (fun h => Sh_si h) dX3_errands_202 ?_
          refine J_ltM (fun M23 => ?_)
          refine J_aload_n (pc := 205) dX3_errands_205 rfl ?_
          refine J_iconst (pc := 206) 0 dX3_errands_206 (by decide) ?_
          refine J_put (pc := 207) (a := 72) (v := .int 0) (M' := M23.si 72 29 0) (c := 2) rfl in_X3 tyX3_ok fnX3 29 (by decide) q1136 rfl (Or.inl rfl) (fun h => sh_k1 h 52 rfl) (fun _ => rfl) (fun _ => rfl) ⟨⟨rfl, rfl⟩, rfl⟩ (fun _ hb => up2_same hb) (fun _ _ => rfl) (fun _ _ => rfl) (put_i (fun _ _ _ => rfl)) (fun h => Sh_si h) dX3_errands_207 ?_
          refine J_ltM (fun M24 => ?_)
          refine J_aload_n (pc := 210) dX3_errands_210 rfl ?_
          refine J_dup (pc := 211) dX3_errands_211 rfl ?_
          refine J_get (pc := 212) (c := 2) (.int (M24.i 72 52)) rfl in_X3 52 (by decide) q1159 rfl (fun h => sh_k1 h 52 rfl) (fun _ _ => rfl) dX3_errands_212 ?_
          refine J_iconst (pc := 215) 1 dX3_errands_215 (by decide) ?_
          refine J_iadd (pc := 216) dX3_errands_216 ?_
          refine J_put (pc := 217) (a := 72) (v := .int ((M24.i 72 52) + 1)) (M' := M24.si 72 52 ((M24.i 72 52) + 1)) (c := 2) rfl in_X3 tyX3_ok fnX3 52 (by decide) q1159 rfl (Or.inl rfl) (fun h => sh_k1 h 52 rfl) (fun _ => rfl) (fun _ => rfl) ⟨⟨rfl, rfl⟩, rfl⟩ (fun _ hb => up2_same hb) (fun _ _ => rfl) (fun _ _ => rfl) (put_i (fun _ _ _ => rfl)) (fun h => Sh_si h) dX3_errands_217 ?_
          refine J_ltM (fun M25 => ?_)
          refine J_iload_n (pc := 220) dX3_errands_220 rfl ?_
          exact J_iret (pc := 221) dX3_errands_221
      · refine J_iconst (pc := 154) (-1) dX3_errands_154 (by decide) ?_
        refine J_aload_n (pc := 155) dX3_errands_155 rfl ?_
        refine J_get (pc := 156) (c := 2) (.int (M19.i 72 18)) rfl in_X3 18 (by decide) q1125 rfl (fun h => sh_k1 h 52 rfl) (fun _ _ => rfl) dX3_errands_156 ?_
        refine J_isub (pc := 159) dX3_errands_159 ?_
        exact J_iret (pc := 160) dX3_errands_160
  · refine J_iconst (pc := 18) 0 dX3_errands_18 (by decide) ?_
    exact J_iret (pc := 19) dX3_errands_19

theorem C_m_errands (l : Launch) (M : PM) : Ctr l Sh yX3_errands cX3_errands 4 (some .int) 5 rvI [.ref 72] M (m_errands M) := Ctr.of (by decide +kernel) (Nat.le_of_ble_eq_true rfl) (fun G => t_m_errands G M)

abbrev T_m_letterOf (G : JG) (M : PM) (pc : Nat) (L : List (Option Value)) (S : List Value) (o : Option (Int32 × PM)) : Prop := JJ G cX3_letterOf yX3_letterOf 1 1 (some .int) Sh (finR G Sh rvI) M pc L S o
def m_letterOf (p0 : Int32) (M : PM) : Option (Int32 × PM) :=
    if p0 = 118 then (some (0, M))
    else (if p0 = 115 then (some (1, M))
    else (if p0 = 104 then (some (2, M))
    else (if p0 = 108 then (some (3, M))
    else (if p0 = 112 then (some (4, M))
    else (if p0 = 110 then (some (5, M))
    else (if p0 = 100 then (some (6, M))
    else (some ((-1), M))))))))

set_option maxHeartbeats 4000000 in
theorem t_m_letterOf (G : JG) (p0 : Int32) (M : PM) : T_m_letterOf G  M 0 (ent [.int p0] 1) [] (m_letterOf p0 M) := by
  unfold m_letterOf
  refine J_iload_n (pc := 0) dX3_letterOf_0 rfl ?_
  refine J_bipush (pc := 1) 118 dX3_letterOf_1 (by decide) ?_
  refine J_icmp_ne (pc := 3) 10 dX3_letterOf_3 rfl (fun h => if_neg h) (fun h => if_pos h) (fun _ => ?_) (fun _ => ?_)
  · refine J_iload_n (pc := 10) dX3_letterOf_10 rfl ?_
    refine J_bipush (pc := 11) 115 dX3_letterOf_11 (by decide) ?_
    refine J_icmp_ne (pc := 13) 20 dX3_letterOf_13 rfl (fun h => if_neg h) (fun h => if_pos h) (fun _ => ?_) (fun _ => ?_)
    · refine J_iload_n (pc := 20) dX3_letterOf_20 rfl ?_
      refine J_bipush (pc := 21) 104 dX3_letterOf_21 (by decide) ?_
      refine J_icmp_ne (pc := 23) 30 dX3_letterOf_23 rfl (fun h => if_neg h) (fun h => if_pos h) (fun _ => ?_) (fun _ => ?_)
      · refine J_iload_n (pc := 30) dX3_letterOf_30 rfl ?_
        refine J_bipush (pc := 31) 108 dX3_letterOf_31 (by decide) ?_
        refine J_icmp_ne (pc := 33) 40 dX3_letterOf_33 rfl (fun h => if_neg h) (fun h => if_pos h) (fun _ => ?_) (fun _ => ?_)
        · refine J_iload_n (pc := 40) dX3_letterOf_40 rfl ?_
          refine J_bipush (pc := 41) 112 dX3_letterOf_41 (by decide) ?_
          refine J_icmp_ne (pc := 43) 50 dX3_letterOf_43 rfl (fun h => if_neg h) (fun h => if_pos h) (fun _ => ?_) (fun _ => ?_)
          · refine J_iload_n (pc := 50) dX3_letterOf_50 rfl ?_
            refine J_bipush (pc := 51) 110 dX3_letterOf_51 (by decide) ?_
            refine J_icmp_ne (pc := 53) 60 dX3_letterOf_53 rfl (fun h => if_neg h) (fun h => if_pos h) (fun _ => ?_) (fun _ => ?_)
            · refine J_iload_n (pc := 60) dX3_letterOf_60 rfl ?_
              refine J_bipush (pc := 61) 100 dX3_letterOf_61 (by decide) ?_
              refine J_icmp_ne (pc := 63) 71 dX3_letterOf_63 rfl (fun h => if_neg h) (fun h => if_pos h) (fun _ => ?_) (fun _ => ?_)
              · refine J_iconst (pc := 71) (-1) dX3_letterOf_71 (by decide) ?_
                exact J_iret (pc := 72) dX3_letterOf_72
              · refine J_bipush (pc := 66) 6 dX3_letterOf_66 (by decide) ?_
                refine J_goto (pc := 68) 72 dX3_letterOf_68 rfl ?_
                exact J_iret (pc := 72) dX3_letterOf_72
            · refine J_iconst (pc := 56) 5 dX3_letterOf_56 (by decide) ?_
              refine J_goto (pc := 57) 72 dX3_letterOf_57 rfl ?_
              exact J_iret (pc := 72) dX3_letterOf_72
          · refine J_iconst (pc := 46) 4 dX3_letterOf_46 (by decide) ?_
            refine J_goto (pc := 47) 72 dX3_letterOf_47 rfl ?_
            exact J_iret (pc := 72) dX3_letterOf_72
        · refine J_iconst (pc := 36) 3 dX3_letterOf_36 (by decide) ?_
          refine J_goto (pc := 37) 72 dX3_letterOf_37 rfl ?_
          exact J_iret (pc := 72) dX3_letterOf_72
      · refine J_iconst (pc := 26) 2 dX3_letterOf_26 (by decide) ?_
        refine J_goto (pc := 27) 72 dX3_letterOf_27 rfl ?_
        exact J_iret (pc := 72) dX3_letterOf_72
    · refine J_iconst (pc := 16) 1 dX3_letterOf_16 (by decide) ?_
      refine J_goto (pc := 17) 72 dX3_letterOf_17 rfl ?_
      exact J_iret (pc := 72) dX3_letterOf_72
  · refine J_iconst (pc := 6) 0 dX3_letterOf_6 (by decide) ?_
    refine J_goto (pc := 7) 72 dX3_letterOf_7 rfl ?_
    exact J_iret (pc := 72) dX3_letterOf_72

theorem C_m_letterOf (l : Launch) (p0 : Int32) (M : PM) : Ctr l Sh yX3_letterOf cX3_letterOf 1 (some .int) 1 rvI [.int p0] M (m_letterOf p0 M) := Ctr.of (by decide +kernel) (Nat.le_of_ble_eq_true rfl) (fun G => t_m_letterOf G p0 M)

abbrev T_b_m_thing (G : JG) (d : Nat) (M : PM) (pc : Nat) (L : List (Option Value)) (S : List Value) (o : Option (Int32 × PM)) : Prop := JJ G cX3_thing yX3_thing 4 (d + 21) (some .int) Sh (finR G Sh rvI) M pc L S o
def b_m_thing (f_held : Int32 → PM → Option (Int32 × PM)) (f_product : Int32 → PM → Option (Int32 × PM)) (f_sum : Int32 → PM → Option (Int32 × PM)) (f_thing : Int32 → PM → Option (Int32 × PM)) (p1 : Int32) (M : PM) : Option (Int32 × PM) :=
    bd (m_passes 45 M) fun v1 M1 =>
    if v1 = 0 then (bd (m_fine M1) fun v2 M2 =>
    if v2 = 0 then (some (0, M2))
    else (bd (m_here M2) fun v3 M3 =>
    jn (fun (M4 : PM) =>
    bd (m_in v3 48 57 M4) fun v4 M5 =>
    if v4 = 0 then (bd (m_letterOf v3 M5) fun v5 M6 =>
    if v5 = (-1) then (bd (m_fault (M6.i 72 17) M6) fun _ M9 =>
    some (0, M9))
    else (lt (M6.si 72 17 ((M6.i 72 17) + 1)) fun M7 =>
    if (M7.i 72 25) = 0 then (some (0, M7))
    else (bd (m_letterOf v3 M7) fun v6 M8 =>
    ck v6 7 <|
    some ((M8.i 85 (ix v6)), M8))))
    else (bd (m_number 3 M5) fun v7 M10 =>
    some (v7, M10))) fun j1 =>
    if v3 = 40 then (if 4 ≤ p1 then (j1 M3)
    else (lt (M3.si 72 17 ((M3.i 72 17) + 1)) fun M11 =>
    bd (f_held (p1 + 1) M11) fun v8 M12 =>
    bd (m_need 41 M12) fun _ M13 =>
    some (v8, M13)))
    else (j1 M3)))
    else (bd (f_thing p1 M1) fun v9 M14 =>
    some ((-v9), M14))

set_option maxHeartbeats 4000000 in
theorem t_b_m_thing (G : JG) (d : Nat) (f_held : Int32 → PM → Option (Int32 × PM)) (f_product : Int32 → PM → Option (Int32 × PM)) (f_sum : Int32 → PM → Option (Int32 × PM)) (f_thing : Int32 → PM → Option (Int32 × PM)) (h_held : ∀ (b0 : Int32) (M : PM) (l : Launch), Ctr l Sh yX3_held cX3_held 3 (some .int) (d + 20) rvI [.ref 72, .int b0] M (f_held b0 M)) (h_product : ∀ (b0 : Int32) (M : PM) (l : Launch), Ctr l Sh yX3_product cX3_product 5 (some .int) (d + 20) rvI [.ref 72, .int b0] M (f_product b0 M)) (h_sum : ∀ (b0 : Int32) (M : PM) (l : Launch), Ctr l Sh yX3_sum cX3_sum 5 (some .int) (d + 20) rvI [.ref 72, .int b0] M (f_sum b0 M)) (h_thing : ∀ (b0 : Int32) (M : PM) (l : Launch), Ctr l Sh yX3_thing cX3_thing 4 (some .int) (d + 20) rvI [.ref 72, .int b0] M (f_thing b0 M)) (p1 : Int32) (M : PM) : T_b_m_thing G d M 0 (ent [.ref 72, .int p1] 4) [] (b_m_thing f_held f_product f_sum f_thing p1 M) := by
  unfold b_m_thing
  refine J_aload_n (pc := 0) dX3_thing_0 rfl ?_
  refine J_bipush (pc := 1) 45 dX3_thing_1 (by decide) ?_
  refine J_callV (pc := 3) (n := 1) (b := 72) (vs := [.int 45]) (ci := 2) (fun l => C_m_passes l 45 M) (lw_V q1328 q1330 qs67 q118 q1331) nmv_X3_passes rfl (by omega) (by decide) rfl (fun h => sh_k1 h 52 rfl) rfl (Nat.le_of_ble_eq_true rfl) dX3_thing_3 (fun v1 M1 => ?_)
  refine J_if_eq (pc := 6) 16 dX3_thing_6 rfl (fun h => if_pos h) (fun h => if_neg h) (fun _ => ?_) (fun _ => ?_)
  · refine J_aload_n (pc := 16) dX3_thing_16 rfl ?_
    refine J_callV (pc := 17) (n := 0) (b := 72) (vs := []) (ci := 2) (fun l => C_m_fine l  M1) (lw_V q1308 q1310 qs62 q118 q1311) nmv_X3_fine rfl (by omega) (by decide) rfl (fun h => sh_k1 h 52 rfl) rfl (Nat.le_of_ble_eq_true rfl) dX3_thing_17 (fun v2 M2 => ?_)
    refine J_if_ne (pc := 20) 25 dX3_thing_20 rfl (fun h => if_neg h) (fun h => if_pos h) (fun _ => ?_) (fun _ => ?_)
    · refine J_aload_n (pc := 25) dX3_thing_25 rfl ?_
      refine J_callV (pc := 26) (n := 0) (b := 72) (vs := []) (ci := 2) (fun l => C_m_here l  M2) (lw_V q1324 q1326 qs66 q118 q1327) nmv_X3_here rfl (by omega) (by decide) rfl (fun h => sh_k1 h 52 rfl) rfl (Nat.le_of_ble_eq_true rfl) dX3_thing_26 (fun v3 M3 => ?_)
      refine J_istore_n (pc := 29) dX3_thing_29 (by decide) ?_
      refine J_iload_n (pc := 30) dX3_thing_30 rfl ?_
      refine J_bipush (pc := 31) 40 dX3_thing_31 (by decide) ?_
      refine J_jn (P := fun J => ∀ (M4 : PM), T_b_m_thing G d M4 67 [some (.ref 72), none, some (.int v3), none] [] (J M4)) (fun M4 => ?_) (fun j1 hj1 => ?_)
      · refine J_iload_n (pc := 67) dX3_thing_67 rfl ?_
        refine J_bipush (pc := 68) 48 dX3_thing_68 (by decide) ?_
        refine J_bipush (pc := 70) 57 dX3_thing_70 (by decide) ?_
        refine J_callS (pc := 72) (n := 3) (vs := [.int v3, .int 48, .int 57]) (fun l => C_m_in l v3 48 57 M4) (lw_S q1289 q1290 q118 q1291) nmh_X3_in rfl (by omega) (by decide) rfl (Nat.le_of_ble_eq_true rfl) dX3_thing_72 (fun v4 M5 => ?_)
        refine J_if_eq (pc := 75) 84 dX3_thing_75 rfl (fun h => if_pos h) (fun h => if_neg h) (fun _ => ?_) (fun _ => ?_)
        · refine J_iload_n (pc := 84) dX3_thing_84 rfl ?_
          refine J_callS (pc := 85) (n := 1) (vs := [.int v3]) (fun l => C_m_letterOf l v3 M5) (lw_S q1376 q1377 q118 q1378) nmh_X3_letterOf rfl (by omega) (by decide) rfl (Nat.le_of_ble_eq_true rfl) dX3_thing_85 (fun v5 M6 => ?_)
          refine J_iconst (pc := 88) (-1) dX3_thing_88 (by decide) ?_
          refine J_icmp_ne (pc := 89) 102 dX3_thing_89 rfl (fun h => if_neg h) (fun h => if_pos h) (fun _ => ?_) (fun _ => ?_)
          · refine J_aload_n (pc := 102) dX3_thing_102 rfl ?_
            refine J_dup (pc := 103) dX3_thing_103 rfl ?_
            refine J_get (pc := 104) (c := 2) (.int (M6.i 72 17)) rfl in_X3 17 (by decide) q1124 rfl (fun h => sh_k1 h 52 rfl) (fun _ _ => rfl) dX3_thing_104 ?_
            refine J_iconst (pc := 107) 1 dX3_thing_107 (by decide) ?_
            refine J_iadd (pc := 108) dX3_thing_108 ?_
            refine J_put (pc := 109) (a := 72) (v := .int ((M6.i 72 17) + 1)) (M' := M6.si 72 17 ((M6.i 72 17) + 1)) (c := 2) rfl in_X3 tyX3_ok fnX3 17 (by decide) q1124 rfl (Or.inl rfl) (fun h => sh_k1 h 52 rfl) (fun _ => rfl) (fun _ => rfl) ⟨⟨rfl, rfl⟩, rfl⟩ (fun _ hb => up2_same hb) (fun _ _ => rfl) (fun _ _ => rfl) (put_i (fun _ _ _ => rfl)) (fun h => Sh_si h) dX3_thing_109 ?_
            refine J_ltM (fun M7 => ?_)
            refine J_aload_n (pc := 112) dX3_thing_112 rfl ?_
            refine J_get (pc := 113) (c := 2) (.int (M7.i 72 25)) rfl in_X3 25 (by decide) q1132 rfl (fun h => sh_k1 h 52 rfl) (fun _ _ => rfl) dX3_thing_113 ?_
            refine J_if_eq (pc := 116) 131 dX3_thing_116 rfl (fun h => if_pos h) (fun h => if_neg h) (fun _ => ?_) (fun _ => ?_)
            · refine J_iconst (pc := 131) 0 dX3_thing_131 (by decide) ?_
              exact J_iret (pc := 132) dX3_thing_132
            · refine J_aload_n (pc := 119) dX3_thing_119 rfl ?_
              refine J_get (pc := 120) (c := 2) (.ref 85) rfl in_X3 26 (by decide) q1133 rfl (fun h => sh_k1 h 52 rfl) (fun h _ => fv_ref (Or.inr ⟨_, rfl⟩) (sh_r h 61 rfl)) dX3_thing_120 ?_
              refine J_iload_n (pc := 123) dX3_thing_123 rfl ?_
              refine J_callS (pc := 124) (n := 1) (vs := [.int v3]) (fun l => C_m_letterOf l v3 M7) (lw_S q1376 q1377 q118 q1378) nmh_X3_letterOf rfl (by omega) (by decide) rfl (Nat.le_of_ble_eq_true rfl) dX3_thing_124 (fun v6 M8 => ?_)
              refine J_ck (fun h1 => ?_)
              refine J_iald (pc := 127) (a := 85) (fun h => sh_a h 65 rfl h1) dX3_thing_127 ?_
              refine J_goto (pc := 128) 132 dX3_thing_128 rfl ?_
              exact J_iret (pc := 132) dX3_thing_132
          · refine J_aload_n (pc := 92) dX3_thing_92 rfl ?_
            refine J_aload_n (pc := 93) dX3_thing_93 rfl ?_
            refine J_get (pc := 94) (c := 2) (.int (M6.i 72 17)) rfl in_X3 17 (by decide) q1124 rfl (fun h => sh_k1 h 52 rfl) (fun _ _ => rfl) dX3_thing_94 ?_
            refine J_callV (pc := 97) (n := 1) (b := 72) (vs := [.int (M6.i 72 17)]) (ci := 2) (fun l => C_m_fault l (M6.i 72 17) M6) (lw_V q1312 q1314 qs63 q118 q1315) nmv_X3_fault rfl (by omega) (by decide) rfl (fun h => sh_k1 h 52 rfl) rfl (Nat.le_of_ble_eq_true rfl) dX3_thing_97 (fun _ M9 => ?_)
            refine J_iconst (pc := 100) 0 dX3_thing_100 (by decide) ?_
            exact J_iret (pc := 101) dX3_thing_101
        · refine J_aload_n (pc := 78) dX3_thing_78 rfl ?_
          refine J_iconst (pc := 79) 3 dX3_thing_79 (by decide) ?_
          refine J_callV (pc := 80) (n := 1) (b := 72) (vs := [.int 3]) (ci := 2) (fun l => C_m_number l 3 M5) (lw_V q1344 q1346 qs70 q118 q1347) nmv_X3_number rfl (by omega) (by decide) rfl (fun h => sh_k1 h 52 rfl) rfl (Nat.le_of_ble_eq_true rfl) dX3_thing_80 (fun v7 M10 => ?_)
          exact J_iret (pc := 83) dX3_thing_83
      refine J_icmp_ne (pc := 33) 67 dX3_thing_33 rfl (fun h => if_neg h) (fun h => if_pos h) (fun _ => ?_) (fun _ => ?_)
      · exact J_sub (A := [some (.ref 72), none, some (.int v3), none]) ⟨rfl, ⟨rfl, trivial⟩⟩ (hj1 M3)
      · refine J_iload_n (pc := 36) dX3_thing_36 rfl ?_
        refine J_iconst (pc := 37) 4 dX3_thing_37 (by decide) ?_
        refine J_icmp_ge (pc := 38) 67 dX3_thing_38 rfl (fun h => if_pos h) (fun h => if_neg h) (fun _ => ?_) (fun _ => ?_)
        · exact J_sub (A := [some (.ref 72), none, some (.int v3), none]) ⟨rfl, ⟨rfl, trivial⟩⟩ (hj1 M3)
        · refine J_aload_n (pc := 41) dX3_thing_41 rfl ?_
          refine J_dup (pc := 42) dX3_thing_42 rfl ?_
          refine J_get (pc := 43) (c := 2) (.int (M3.i 72 17)) rfl in_X3 17 (by decide) q1124 rfl (fun h => sh_k1 h 52 rfl) (fun _ _ => rfl) dX3_thing_43 ?_
          refine J_iconst (pc := 46) 1 dX3_thing_46 (by decide) ?_
          refine J_iadd (pc := 47) dX3_thing_47 ?_
          refine J_put (pc := 48) (a := 72) (v := .int ((M3.i 72 17) + 1)) (M' := M3.si 72 17 ((M3.i 72 17) + 1)) (c := 2) rfl in_X3 tyX3_ok fnX3 17 (by decide) q1124 rfl (Or.inl rfl) (fun h => sh_k1 h 52 rfl) (fun _ => rfl) (fun _ => rfl) ⟨⟨rfl, rfl⟩, rfl⟩ (fun _ hb => up2_same hb) (fun _ _ => rfl) (fun _ _ => rfl) (put_i (fun _ _ _ => rfl)) (fun h => Sh_si h) dX3_thing_48 ?_
          refine J_ltM (fun M11 => ?_)
          refine J_aload_n (pc := 51) dX3_thing_51 rfl ?_
          refine J_iload_n (pc := 52) dX3_thing_52 rfl ?_
          refine J_iconst (pc := 53) 1 dX3_thing_53 (by decide) ?_
          refine J_iadd (pc := 54) dX3_thing_54 ?_
          refine J_callV (pc := 55) (n := 1) (b := 72) (vs := [.int (p1 + 1)]) (ci := 2) (fun l => h_held (p1 + 1) M11 l) (lw_V q1360 q1362 qs72 q118 q1363) nmv_X3_held rfl (by omega) (by decide) rfl (fun h => sh_k1 h 52 rfl) rfl (Nat.le_of_ble_eq_true rfl) dX3_thing_55 (fun v8 M12 => ?_)
          refine J_istore_n (pc := 58) dX3_thing_58 (by decide) ?_
          refine J_aload_n (pc := 59) dX3_thing_59 rfl ?_
          refine J_bipush (pc := 60) 41 dX3_thing_60 (by decide) ?_
          refine J_callV (pc := 62) (n := 1) (b := 72) (vs := [.int 41]) (ci := 2) (fun l => C_m_need l 41 M12) (lw_V q1340 q1342 qs69 q118 q1343) nmv_X3_need rfl (by omega) (by decide) rfl (fun h => sh_k1 h 52 rfl) rfl (Nat.le_of_ble_eq_true rfl) dX3_thing_62 (fun _ M13 => ?_)
          refine J_iload_n (pc := 65) dX3_thing_65 rfl ?_
          exact J_iret (pc := 66) dX3_thing_66
    · refine J_iconst (pc := 23) 0 dX3_thing_23 (by decide) ?_
      exact J_iret (pc := 24) dX3_thing_24
  · refine J_aload_n (pc := 9) dX3_thing_9 rfl ?_
    refine J_iload_n (pc := 10) dX3_thing_10 rfl ?_
    refine J_callV (pc := 11) (n := 1) (b := 72) (vs := [.int p1]) (ci := 2) (fun l => h_thing p1 M1 l) (lw_V q1372 q1374 qs75 q118 q1375) nmv_X3_thing rfl (by omega) (by decide) rfl (fun h => sh_k1 h 52 rfl) rfl (Nat.le_of_ble_eq_true rfl) dX3_thing_11 (fun v9 M14 => ?_)
    refine J_ineg (pc := 14) dX3_thing_14 ?_
    exact J_iret (pc := 15) dX3_thing_15

abbrev T_b_m_product (G : JG) (d : Nat) (M : PM) (pc : Nat) (L : List (Option Value)) (S : List Value) (o : Option (Int32 × PM)) : Prop := JJ G cX3_product yX3_product 5 (d + 21) (some .int) Sh (finR G Sh rvI) M pc L S o
def b_m_product_L6 (c1 : Int32) (f_held : Int32 → PM → Option (Int32 × PM)) (f_product : Int32 → PM → Option (Int32 × PM)) (f_sum : Int32 → PM → Option (Int32 × PM)) (f_thing : Int32 → PM → Option (Int32 × PM)) : Nat → Int32 → PM → Option (Int32 × PM)
  | 0, _, _ => none
  | n + 1, v2, M2 =>
    bd (m_fine M2) fun v3 M3 =>
    if v3 = 0 then (some (v2, M3))
    else (bd (m_here M3) fun v4 M4 =>
    jn (fun (M5 : PM) =>
    bd (m_here M5) fun v5 M6 =>
    lt (if v5 = 42 then 1 else 0 : Int32) fun v6 =>
    lt (M6.si 72 17 ((M6.i 72 17) + 1)) fun M7 =>
    bd (f_thing c1 M7) fun v7 M8 =>
    jn (fun (v8 : Int32) (M9 : PM) =>
    b_m_product_L6 c1 f_held f_product f_sum f_thing n v8 M9) fun j3 =>
    if v6 = 0 then (if v7 = 0 then (j3 0 M8)
    else (ckb (¬ (v7 : Int32) = 0) <|
    j3 (v2 / v7) M8))
    else (j3 (v2 * v7) M8)) fun j1 =>
    if v4 = 42 then (j1 M4)
    else (bd (m_here M4) fun v9 M10 =>
    if v9 = 47 then (j1 M10)
    else (some (v2, M10))))

set_option maxHeartbeats 4000000 in
theorem t_b_m_product_L6 (G : JG) (d : Nat) (c1 : Int32) (f_held : Int32 → PM → Option (Int32 × PM)) (f_product : Int32 → PM → Option (Int32 × PM)) (f_sum : Int32 → PM → Option (Int32 × PM)) (f_thing : Int32 → PM → Option (Int32 × PM)) (h_held : ∀ (b0 : Int32) (M : PM) (l : Launch), Ctr l Sh yX3_held cX3_held 3 (some .int) (d + 20) rvI [.ref 72, .int b0] M (f_held b0 M)) (h_product : ∀ (b0 : Int32) (M : PM) (l : Launch), Ctr l Sh yX3_product cX3_product 5 (some .int) (d + 20) rvI [.ref 72, .int b0] M (f_product b0 M)) (h_sum : ∀ (b0 : Int32) (M : PM) (l : Launch), Ctr l Sh yX3_sum cX3_sum 5 (some .int) (d + 20) rvI [.ref 72, .int b0] M (f_sum b0 M)) (h_thing : ∀ (b0 : Int32) (M : PM) (l : Launch), Ctr l Sh yX3_thing cX3_thing 4 (some .int) (d + 20) rvI [.ref 72, .int b0] M (f_thing b0 M)) : ∀ (n : Nat) (v2 : Int32) (M2 : PM), T_b_m_product G d M2 6 [some (.ref 72), some (.int c1), some (.int v2), none, none] [] (b_m_product_L6 c1 f_held f_product f_sum f_thing n v2 M2) := by
  intro n
  induction n with
  | zero =>
    intro v2 M2
    exact J_none
  | succ n ih =>
    intro v2 M2
    rw [b_m_product_L6]
    refine J_aload_n (pc := 6) dX3_product_6 rfl ?_
    refine J_callV (pc := 7) (n := 0) (b := 72) (vs := []) (ci := 2) (fun l => C_m_fine l  M2) (lw_V q1308 q1310 qs62 q118 q1311) nmv_X3_fine rfl (by omega) (by decide) rfl (fun h => sh_k1 h 52 rfl) rfl (Nat.le_of_ble_eq_true rfl) dX3_product_7 (fun v3 M3 => ?_)
    refine J_if_eq (pc := 10) 91 dX3_product_10 rfl (fun h => if_pos h) (fun h => if_neg h) (fun _ => ?_) (fun _ => ?_)
    · refine J_iload_n (pc := 91) dX3_product_91 rfl ?_
      exact J_iret (pc := 92) dX3_product_92
    · refine J_aload_n (pc := 13) dX3_product_13 rfl ?_
      refine J_callV (pc := 14) (n := 0) (b := 72) (vs := []) (ci := 2) (fun l => C_m_here l  M3) (lw_V q1324 q1326 qs66 q118 q1327) nmv_X3_here rfl (by omega) (by decide) rfl (fun h => sh_k1 h 52 rfl) rfl (Nat.le_of_ble_eq_true rfl) dX3_product_14 (fun v4 M4 => ?_)
      refine J_bipush (pc := 17) 42 dX3_product_17 (by decide) ?_
      refine J_jn (P := fun J => ∀ (M5 : PM), T_b_m_product G d M5 31 [some (.ref 72), some (.int c1), some (.int v2), none, none] [] (J M5)) (fun M5 => ?_) (fun j1 hj1 => ?_)
      · refine J_aload_n (pc := 31) dX3_product_31 rfl ?_
        refine J_callV (pc := 32) (n := 0) (b := 72) (vs := []) (ci := 2) (fun l => C_m_here l  M5) (lw_V q1324 q1326 qs66 q118 q1327) nmv_X3_here rfl (by omega) (by decide) rfl (fun h => sh_k1 h 52 rfl) rfl (Nat.le_of_ble_eq_true rfl) dX3_product_32 (fun v5 M6 => ?_)
        refine J_bipush (pc := 35) 42 dX3_product_35 (by decide) ?_
        refine J_ltj (β := Int32) (P := fun J => ∀ v6 : Int32, T_b_m_product G d M6 45 [some (.ref 72), some (.int c1), some (.int v2), none, none] [.int v6] (J v6)) (fun v6 => ?_) (fun j2 hj2 => ?_)
        · refine J_istore_n (pc := 45) dX3_product_45 (by decide) ?_
          refine J_aload_n (pc := 46) dX3_product_46 rfl ?_
          refine J_dup (pc := 47) dX3_product_47 rfl ?_
          refine J_get (pc := 48) (c := 2) (.int (M6.i 72 17)) rfl in_X3 17 (by decide) q1124 rfl (fun h => sh_k1 h 52 rfl) (fun _ _ => rfl) dX3_product_48 ?_
          refine J_iconst (pc := 51) 1 dX3_product_51 (by decide) ?_
          refine J_iadd (pc := 52) dX3_product_52 ?_
          refine J_put (pc := 53) (a := 72) (v := .int ((M6.i 72 17) + 1)) (M' := M6.si 72 17 ((M6.i 72 17) + 1)) (c := 2) rfl in_X3 tyX3_ok fnX3 17 (by decide) q1124 rfl (Or.inl rfl) (fun h => sh_k1 h 52 rfl) (fun _ => rfl) (fun _ => rfl) ⟨⟨rfl, rfl⟩, rfl⟩ (fun _ hb => up2_same hb) (fun _ _ => rfl) (fun _ _ => rfl) (put_i (fun _ _ _ => rfl)) (fun h => Sh_si h) dX3_product_53 ?_
          refine J_ltM (fun M7 => ?_)
          refine J_aload_n (pc := 56) dX3_product_56 rfl ?_
          refine J_iload_n (pc := 57) dX3_product_57 rfl ?_
          refine J_callV (pc := 58) (n := 1) (b := 72) (vs := [.int c1]) (ci := 2) (fun l => h_thing c1 M7 l) (lw_V q1372 q1374 qs75 q118 q1375) nmv_X3_thing rfl (by omega) (by decide) rfl (fun h => sh_k1 h 52 rfl) rfl (Nat.le_of_ble_eq_true rfl) dX3_product_58 (fun v7 M8 => ?_)
          refine J_istore (pc := 61) dX3_product_61 (by decide) ?_
          refine J_iload_n (pc := 63) dX3_product_63 rfl ?_
          refine J_jn (P := fun J => ∀ (v8 : Int32) (M9 : PM), T_b_m_product G d M9 87 [some (.ref 72), some (.int c1), none, none, none] [.int v8] (J v8 M9)) (fun v8 M9 => ?_) (fun j3 hj3 => ?_)
          · refine J_istore_n (pc := 87) dX3_product_87 (by decide) ?_
            refine J_goto (pc := 88) 6 dX3_product_88 rfl ?_
            exact J_sub (A := [some (.ref 72), some (.int c1), some (.int v8), none, none]) ⟨rfl, ⟨rfl, ⟨rfl, trivial⟩⟩⟩ (ih v8 M9)
          refine J_if_eq (pc := 64) 74 dX3_product_64 rfl (fun h => if_pos h) (fun h => if_neg h) (fun _ => ?_) (fun _ => ?_)
          · refine J_iload (pc := 74) dX3_product_74 rfl ?_
            refine J_if_ne (pc := 76) 83 dX3_product_76 rfl (fun h => if_neg h) (fun h => if_pos h) (fun _ => ?_) (fun _ => ?_)
            · refine J_iload_n (pc := 83) dX3_product_83 rfl ?_
              refine J_iload (pc := 84) dX3_product_84 rfl ?_
              refine J_ckb (fun h1 => ?_)
              refine J_idiv (pc := 86) dX3_product_86 h1 ?_
              exact J_sub (A := [some (.ref 72), some (.int c1), none, none, none]) ⟨rfl, ⟨rfl, trivial⟩⟩ (hj3 (v2 / v7) M8)
            · refine J_iconst (pc := 79) 0 dX3_product_79 (by decide) ?_
              refine J_goto (pc := 80) 87 dX3_product_80 rfl ?_
              exact J_sub (A := [some (.ref 72), some (.int c1), none, none, none]) ⟨rfl, ⟨rfl, trivial⟩⟩ (hj3 0 M8)
          · refine J_iload_n (pc := 67) dX3_product_67 rfl ?_
            refine J_iload (pc := 68) dX3_product_68 rfl ?_
            refine J_imul (pc := 70) dX3_product_70 ?_
            refine J_goto (pc := 71) 87 dX3_product_71 rfl ?_
            exact J_sub (A := [some (.ref 72), some (.int c1), none, none, none]) ⟨rfl, ⟨rfl, trivial⟩⟩ (hj3 (v2 * v7) M8)
        refine J_icmp_ne (pc := 37) 44 dX3_product_37 rfl (fun h => congrArg j2 (if_neg h)) (fun h => congrArg j2 (if_pos h)) (fun _ => ?_) (fun _ => ?_)
        · refine J_iconst (pc := 44) 0 dX3_product_44 (by decide) ?_
          exact J_sub (A := [some (.ref 72), some (.int c1), some (.int v2), none, none]) ⟨rfl, ⟨rfl, ⟨rfl, trivial⟩⟩⟩ (hj2 0)
        · refine J_iconst (pc := 40) 1 dX3_product_40 (by decide) ?_
          refine J_goto (pc := 41) 45 dX3_product_41 rfl ?_
          exact J_sub (A := [some (.ref 72), some (.int c1), some (.int v2), none, none]) ⟨rfl, ⟨rfl, ⟨rfl, trivial⟩⟩⟩ (hj2 1)
      refine J_icmp_eq (pc := 19) 31 dX3_product_19 rfl (fun h => if_pos h) (fun h => if_neg h) (fun _ => ?_) (fun _ => ?_)
      · exact J_sub (A := [some (.ref 72), some (.int c1), some (.int v2), none, none]) ⟨rfl, ⟨rfl, ⟨rfl, trivial⟩⟩⟩ (hj1 M4)
      · refine J_aload_n (pc := 22) dX3_product_22 rfl ?_
        refine J_callV (pc := 23) (n := 0) (b := 72) (vs := []) (ci := 2) (fun l => C_m_here l  M4) (lw_V q1324 q1326 qs66 q118 q1327) nmv_X3_here rfl (by omega) (by decide) rfl (fun h => sh_k1 h 52 rfl) rfl (Nat.le_of_ble_eq_true rfl) dX3_product_23 (fun v9 M10 => ?_)
        refine J_bipush (pc := 26) 47 dX3_product_26 (by decide) ?_
        refine J_icmp_ne (pc := 28) 91 dX3_product_28 rfl (fun h => if_neg h) (fun h => if_pos h) (fun _ => ?_) (fun _ => ?_)
        · refine J_iload_n (pc := 91) dX3_product_91 rfl ?_
          exact J_iret (pc := 92) dX3_product_92
        · exact J_sub (A := [some (.ref 72), some (.int c1), some (.int v2), none, none]) ⟨rfl, ⟨rfl, ⟨rfl, trivial⟩⟩⟩ (hj1 M10)

def b_m_product (f_held : Int32 → PM → Option (Int32 × PM)) (f_product : Int32 → PM → Option (Int32 × PM)) (f_sum : Int32 → PM → Option (Int32 × PM)) (f_thing : Int32 → PM → Option (Int32 × PM)) (p1 : Int32) (M : PM) : Option (Int32 × PM) :=
    bd (f_thing p1 M) fun v1 M1 =>
    b_m_product_L6 p1 f_held f_product f_sum f_thing FU v1 M1

set_option maxHeartbeats 4000000 in
theorem t_b_m_product (G : JG) (d : Nat) (f_held : Int32 → PM → Option (Int32 × PM)) (f_product : Int32 → PM → Option (Int32 × PM)) (f_sum : Int32 → PM → Option (Int32 × PM)) (f_thing : Int32 → PM → Option (Int32 × PM)) (h_held : ∀ (b0 : Int32) (M : PM) (l : Launch), Ctr l Sh yX3_held cX3_held 3 (some .int) (d + 20) rvI [.ref 72, .int b0] M (f_held b0 M)) (h_product : ∀ (b0 : Int32) (M : PM) (l : Launch), Ctr l Sh yX3_product cX3_product 5 (some .int) (d + 20) rvI [.ref 72, .int b0] M (f_product b0 M)) (h_sum : ∀ (b0 : Int32) (M : PM) (l : Launch), Ctr l Sh yX3_sum cX3_sum 5 (some .int) (d + 20) rvI [.ref 72, .int b0] M (f_sum b0 M)) (h_thing : ∀ (b0 : Int32) (M : PM) (l : Launch), Ctr l Sh yX3_thing cX3_thing 4 (some .int) (d + 20) rvI [.ref 72, .int b0] M (f_thing b0 M)) (p1 : Int32) (M : PM) : T_b_m_product G d M 0 (ent [.ref 72, .int p1] 5) [] (b_m_product f_held f_product f_sum f_thing p1 M) := by
  unfold b_m_product
  refine J_aload_n (pc := 0) dX3_product_0 rfl ?_
  refine J_iload_n (pc := 1) dX3_product_1 rfl ?_
  refine J_callV (pc := 2) (n := 1) (b := 72) (vs := [.int p1]) (ci := 2) (fun l => h_thing p1 M l) (lw_V q1372 q1374 qs75 q118 q1375) nmv_X3_thing rfl (by omega) (by decide) rfl (fun h => sh_k1 h 52 rfl) rfl (Nat.le_of_ble_eq_true rfl) dX3_product_2 (fun v1 M1 => ?_)
  refine J_istore_n (pc := 5) dX3_product_5 (by decide) ?_
  refine J_sub (A := [some (.ref 72), some (.int p1), some (.int v1), none, none]) ⟨rfl, ⟨rfl, ⟨rfl, trivial⟩⟩⟩ (t_b_m_product_L6 G d p1 f_held f_product f_sum f_thing  h_held h_product h_sum h_thing FU v1 M1)

abbrev T_b_m_sum (G : JG) (d : Nat) (M : PM) (pc : Nat) (L : List (Option Value)) (S : List Value) (o : Option (Int32 × PM)) : Prop := JJ G cX3_sum yX3_sum 5 (d + 21) (some .int) Sh (finR G Sh rvI) M pc L S o
def b_m_sum_L6 (c1 : Int32) (f_held : Int32 → PM → Option (Int32 × PM)) (f_product : Int32 → PM → Option (Int32 × PM)) (f_sum : Int32 → PM → Option (Int32 × PM)) (f_thing : Int32 → PM → Option (Int32 × PM)) : Nat → Int32 → PM → Option (Int32 × PM)
  | 0, _, _ => none
  | n + 1, v2, M2 =>
    bd (m_fine M2) fun v3 M3 =>
    if v3 = 0 then (some (v2, M3))
    else (bd (m_here M3) fun v4 M4 =>
    jn (fun (M5 : PM) =>
    bd (m_here M5) fun v5 M6 =>
    lt (if v5 = 43 then 1 else 0 : Int32) fun v6 =>
    lt (M6.si 72 17 ((M6.i 72 17) + 1)) fun M7 =>
    bd (f_product c1 M7) fun v7 M8 =>
    lt (if v6 = 0 then (v2 - v7) else (v2 + v7) : Int32) fun v8 =>
    b_m_sum_L6 c1 f_held f_product f_sum f_thing n v8 M8) fun j1 =>
    if v4 = 43 then (j1 M4)
    else (bd (m_here M4) fun v9 M9 =>
    if v9 = 45 then (j1 M9)
    else (some (v2, M9))))

set_option maxHeartbeats 4000000 in
theorem t_b_m_sum_L6 (G : JG) (d : Nat) (c1 : Int32) (f_held : Int32 → PM → Option (Int32 × PM)) (f_product : Int32 → PM → Option (Int32 × PM)) (f_sum : Int32 → PM → Option (Int32 × PM)) (f_thing : Int32 → PM → Option (Int32 × PM)) (h_held : ∀ (b0 : Int32) (M : PM) (l : Launch), Ctr l Sh yX3_held cX3_held 3 (some .int) (d + 20) rvI [.ref 72, .int b0] M (f_held b0 M)) (h_product : ∀ (b0 : Int32) (M : PM) (l : Launch), Ctr l Sh yX3_product cX3_product 5 (some .int) (d + 20) rvI [.ref 72, .int b0] M (f_product b0 M)) (h_sum : ∀ (b0 : Int32) (M : PM) (l : Launch), Ctr l Sh yX3_sum cX3_sum 5 (some .int) (d + 20) rvI [.ref 72, .int b0] M (f_sum b0 M)) (h_thing : ∀ (b0 : Int32) (M : PM) (l : Launch), Ctr l Sh yX3_thing cX3_thing 4 (some .int) (d + 20) rvI [.ref 72, .int b0] M (f_thing b0 M)) : ∀ (n : Nat) (v2 : Int32) (M2 : PM), T_b_m_sum G d M2 6 [some (.ref 72), some (.int c1), some (.int v2), none, none] [] (b_m_sum_L6 c1 f_held f_product f_sum f_thing n v2 M2) := by
  intro n
  induction n with
  | zero =>
    intro v2 M2
    exact J_none
  | succ n ih =>
    intro v2 M2
    rw [b_m_sum_L6]
    refine J_aload_n (pc := 6) dX3_sum_6 rfl ?_
    refine J_callV (pc := 7) (n := 0) (b := 72) (vs := []) (ci := 2) (fun l => C_m_fine l  M2) (lw_V q1308 q1310 qs62 q118 q1311) nmv_X3_fine rfl (by omega) (by decide) rfl (fun h => sh_k1 h 52 rfl) rfl (Nat.le_of_ble_eq_true rfl) dX3_sum_7 (fun v3 M3 => ?_)
    refine J_if_eq (pc := 10) 82 dX3_sum_10 rfl (fun h => if_pos h) (fun h => if_neg h) (fun _ => ?_) (fun _ => ?_)
    · refine J_iload_n (pc := 82) dX3_sum_82 rfl ?_
      exact J_iret (pc := 83) dX3_sum_83
    · refine J_aload_n (pc := 13) dX3_sum_13 rfl ?_
      refine J_callV (pc := 14) (n := 0) (b := 72) (vs := []) (ci := 2) (fun l => C_m_here l  M3) (lw_V q1324 q1326 qs66 q118 q1327) nmv_X3_here rfl (by omega) (by decide) rfl (fun h => sh_k1 h 52 rfl) rfl (Nat.le_of_ble_eq_true rfl) dX3_sum_14 (fun v4 M4 => ?_)
      refine J_bipush (pc := 17) 43 dX3_sum_17 (by decide) ?_
      refine J_jn (P := fun J => ∀ (M5 : PM), T_b_m_sum G d M5 31 [some (.ref 72), some (.int c1), some (.int v2), none, none] [] (J M5)) (fun M5 => ?_) (fun j1 hj1 => ?_)
      · refine J_aload_n (pc := 31) dX3_sum_31 rfl ?_
        refine J_callV (pc := 32) (n := 0) (b := 72) (vs := []) (ci := 2) (fun l => C_m_here l  M5) (lw_V q1324 q1326 qs66 q118 q1327) nmv_X3_here rfl (by omega) (by decide) rfl (fun h => sh_k1 h 52 rfl) rfl (Nat.le_of_ble_eq_true rfl) dX3_sum_32 (fun v5 M6 => ?_)
        refine J_bipush (pc := 35) 43 dX3_sum_35 (by decide) ?_
        refine J_ltj (β := Int32) (P := fun J => ∀ v6 : Int32, T_b_m_sum G d M6 45 [some (.ref 72), some (.int c1), some (.int v2), none, none] [.int v6] (J v6)) (fun v6 => ?_) (fun j2 hj2 => ?_)
        · refine J_istore_n (pc := 45) dX3_sum_45 (by decide) ?_
          refine J_aload_n (pc := 46) dX3_sum_46 rfl ?_
          refine J_dup (pc := 47) dX3_sum_47 rfl ?_
          refine J_get (pc := 48) (c := 2) (.int (M6.i 72 17)) rfl in_X3 17 (by decide) q1124 rfl (fun h => sh_k1 h 52 rfl) (fun _ _ => rfl) dX3_sum_48 ?_
          refine J_iconst (pc := 51) 1 dX3_sum_51 (by decide) ?_
          refine J_iadd (pc := 52) dX3_sum_52 ?_
          refine J_put (pc := 53) (a := 72) (v := .int ((M6.i 72 17) + 1)) (M' := M6.si 72 17 ((M6.i 72 17) + 1)) (c := 2) rfl in_X3 tyX3_ok fnX3 17 (by decide) q1124 rfl (Or.inl rfl) (fun h => sh_k1 h 52 rfl) (fun _ => rfl) (fun _ => rfl) ⟨⟨rfl, rfl⟩, rfl⟩ (fun _ hb => up2_same hb) (fun _ _ => rfl) (fun _ _ => rfl) (put_i (fun _ _ _ => rfl)) (fun h => Sh_si h) dX3_sum_53 ?_
          refine J_ltM (fun M7 => ?_)
          refine J_aload_n (pc := 56) dX3_sum_56 rfl ?_
          refine J_iload_n (pc := 57) dX3_sum_57 rfl ?_
          refine J_callV (pc := 58) (n := 1) (b := 72) (vs := [.int c1]) (ci := 2) (fun l => h_product c1 M7 l) (lw_V q1368 q1370 qs74 q118 q1371) nmv_X3_product rfl (by omega) (by decide) rfl (fun h => sh_k1 h 52 rfl) rfl (Nat.le_of_ble_eq_true rfl) dX3_sum_58 (fun v7 M8 => ?_)
          refine J_istore (pc := 61) dX3_sum_61 (by decide) ?_
          refine J_iload_n (pc := 63) dX3_sum_63 rfl ?_
          refine J_ltj (β := Int32) (P := fun J => ∀ v8 : Int32, T_b_m_sum G d M8 78 [some (.ref 72), some (.int c1), none, none, none] [.int v8] (J v8)) (fun v8 => ?_) (fun j3 hj3 => ?_)
          · refine J_istore_n (pc := 78) dX3_sum_78 (by decide) ?_
            refine J_goto (pc := 79) 6 dX3_sum_79 rfl ?_
            exact J_sub (A := [some (.ref 72), some (.int c1), some (.int v8), none, none]) ⟨rfl, ⟨rfl, ⟨rfl, trivial⟩⟩⟩ (ih v8 M8)
          refine J_if_eq (pc := 64) 74 dX3_sum_64 rfl (fun h => congrArg j3 (if_pos h)) (fun h => congrArg j3 (if_neg h)) (fun _ => ?_) (fun _ => ?_)
          · refine J_iload_n (pc := 74) dX3_sum_74 rfl ?_
            refine J_iload (pc := 75) dX3_sum_75 rfl ?_
            refine J_isub (pc := 77) dX3_sum_77 ?_
            exact J_sub (A := [some (.ref 72), some (.int c1), none, none, none]) ⟨rfl, ⟨rfl, trivial⟩⟩ (hj3 (v2 - v7))
          · refine J_iload_n (pc := 67) dX3_sum_67 rfl ?_
            refine J_iload (pc := 68) dX3_sum_68 rfl ?_
            refine J_iadd (pc := 70) dX3_sum_70 ?_
            refine J_goto (pc := 71) 78 dX3_sum_71 rfl ?_
            exact J_sub (A := [some (.ref 72), some (.int c1), none, none, none]) ⟨rfl, ⟨rfl, trivial⟩⟩ (hj3 (v2 + v7))
        refine J_icmp_ne (pc := 37) 44 dX3_sum_37 rfl (fun h => congrArg j2 (if_neg h)) (fun h => congrArg j2 (if_pos h)) (fun _ => ?_) (fun _ => ?_)
        · refine J_iconst (pc := 44) 0 dX3_sum_44 (by decide) ?_
          exact J_sub (A := [some (.ref 72), some (.int c1), some (.int v2), none, none]) ⟨rfl, ⟨rfl, ⟨rfl, trivial⟩⟩⟩ (hj2 0)
        · refine J_iconst (pc := 40) 1 dX3_sum_40 (by decide) ?_
          refine J_goto (pc := 41) 45 dX3_sum_41 rfl ?_
          exact J_sub (A := [some (.ref 72), some (.int c1), some (.int v2), none, none]) ⟨rfl, ⟨rfl, ⟨rfl, trivial⟩⟩⟩ (hj2 1)
      refine J_icmp_eq (pc := 19) 31 dX3_sum_19 rfl (fun h => if_pos h) (fun h => if_neg h) (fun _ => ?_) (fun _ => ?_)
      · exact J_sub (A := [some (.ref 72), some (.int c1), some (.int v2), none, none]) ⟨rfl, ⟨rfl, ⟨rfl, trivial⟩⟩⟩ (hj1 M4)
      · refine J_aload_n (pc := 22) dX3_sum_22 rfl ?_
        refine J_callV (pc := 23) (n := 0) (b := 72) (vs := []) (ci := 2) (fun l => C_m_here l  M4) (lw_V q1324 q1326 qs66 q118 q1327) nmv_X3_here rfl (by omega) (by decide) rfl (fun h => sh_k1 h 52 rfl) rfl (Nat.le_of_ble_eq_true rfl) dX3_sum_23 (fun v9 M9 => ?_)
        refine J_bipush (pc := 26) 45 dX3_sum_26 (by decide) ?_
        refine J_icmp_ne (pc := 28) 82 dX3_sum_28 rfl (fun h => if_neg h) (fun h => if_pos h) (fun _ => ?_) (fun _ => ?_)
        · refine J_iload_n (pc := 82) dX3_sum_82 rfl ?_
          exact J_iret (pc := 83) dX3_sum_83
        · exact J_sub (A := [some (.ref 72), some (.int c1), some (.int v2), none, none]) ⟨rfl, ⟨rfl, ⟨rfl, trivial⟩⟩⟩ (hj1 M9)

def b_m_sum (f_held : Int32 → PM → Option (Int32 × PM)) (f_product : Int32 → PM → Option (Int32 × PM)) (f_sum : Int32 → PM → Option (Int32 × PM)) (f_thing : Int32 → PM → Option (Int32 × PM)) (p1 : Int32) (M : PM) : Option (Int32 × PM) :=
    bd (f_product p1 M) fun v1 M1 =>
    b_m_sum_L6 p1 f_held f_product f_sum f_thing FU v1 M1

set_option maxHeartbeats 4000000 in
theorem t_b_m_sum (G : JG) (d : Nat) (f_held : Int32 → PM → Option (Int32 × PM)) (f_product : Int32 → PM → Option (Int32 × PM)) (f_sum : Int32 → PM → Option (Int32 × PM)) (f_thing : Int32 → PM → Option (Int32 × PM)) (h_held : ∀ (b0 : Int32) (M : PM) (l : Launch), Ctr l Sh yX3_held cX3_held 3 (some .int) (d + 20) rvI [.ref 72, .int b0] M (f_held b0 M)) (h_product : ∀ (b0 : Int32) (M : PM) (l : Launch), Ctr l Sh yX3_product cX3_product 5 (some .int) (d + 20) rvI [.ref 72, .int b0] M (f_product b0 M)) (h_sum : ∀ (b0 : Int32) (M : PM) (l : Launch), Ctr l Sh yX3_sum cX3_sum 5 (some .int) (d + 20) rvI [.ref 72, .int b0] M (f_sum b0 M)) (h_thing : ∀ (b0 : Int32) (M : PM) (l : Launch), Ctr l Sh yX3_thing cX3_thing 4 (some .int) (d + 20) rvI [.ref 72, .int b0] M (f_thing b0 M)) (p1 : Int32) (M : PM) : T_b_m_sum G d M 0 (ent [.ref 72, .int p1] 5) [] (b_m_sum f_held f_product f_sum f_thing p1 M) := by
  unfold b_m_sum
  refine J_aload_n (pc := 0) dX3_sum_0 rfl ?_
  refine J_iload_n (pc := 1) dX3_sum_1 rfl ?_
  refine J_callV (pc := 2) (n := 1) (b := 72) (vs := [.int p1]) (ci := 2) (fun l => h_product p1 M l) (lw_V q1368 q1370 qs74 q118 q1371) nmv_X3_product rfl (by omega) (by decide) rfl (fun h => sh_k1 h 52 rfl) rfl (Nat.le_of_ble_eq_true rfl) dX3_sum_2 (fun v1 M1 => ?_)
  refine J_istore_n (pc := 5) dX3_sum_5 (by decide) ?_
  refine J_sub (A := [some (.ref 72), some (.int p1), some (.int v1), none, none]) ⟨rfl, ⟨rfl, ⟨rfl, trivial⟩⟩⟩ (t_b_m_sum_L6 G d p1 f_held f_product f_sum f_thing  h_held h_product h_sum h_thing FU v1 M1)

abbrev T_b_m_held (G : JG) (d : Nat) (M : PM) (pc : Nat) (L : List (Option Value)) (S : List Value) (o : Option (Int32 × PM)) : Prop := JJ G cX3_held yX3_held 3 (d + 21) (some .int) Sh (finR G Sh rvI) M pc L S o
def b_m_held (f_held : Int32 → PM → Option (Int32 × PM)) (f_product : Int32 → PM → Option (Int32 × PM)) (f_sum : Int32 → PM → Option (Int32 × PM)) (f_thing : Int32 → PM → Option (Int32 × PM)) (p1 : Int32) (M : PM) : Option (Int32 × PM) :=
    bd (f_sum p1 M) fun v1 M1 =>
    bd (m_passes 60 M1) fun v2 M2 =>
    if v2 = 0 then (bd (m_passes 62 M2) fun v3 M3 =>
    if v3 = 0 then (bd (m_passes 61 M3) fun v4 M4 =>
    if v4 = 0 then (some (v1, M4))
    else (bd (f_sum p1 M4) fun v5 M5 =>
    if v1 = v5 then (some (1, M5))
    else (some (0, M5))))
    else (bd (f_sum p1 M3) fun v6 M6 =>
    if v1 ≤ v6 then (some (0, M6))
    else (some (1, M6))))
    else (bd (f_sum p1 M2) fun v7 M7 =>
    if v7 ≤ v1 then (some (0, M7))
    else (some (1, M7)))

set_option maxHeartbeats 4000000 in
theorem t_b_m_held (G : JG) (d : Nat) (f_held : Int32 → PM → Option (Int32 × PM)) (f_product : Int32 → PM → Option (Int32 × PM)) (f_sum : Int32 → PM → Option (Int32 × PM)) (f_thing : Int32 → PM → Option (Int32 × PM)) (h_held : ∀ (b0 : Int32) (M : PM) (l : Launch), Ctr l Sh yX3_held cX3_held 3 (some .int) (d + 20) rvI [.ref 72, .int b0] M (f_held b0 M)) (h_product : ∀ (b0 : Int32) (M : PM) (l : Launch), Ctr l Sh yX3_product cX3_product 5 (some .int) (d + 20) rvI [.ref 72, .int b0] M (f_product b0 M)) (h_sum : ∀ (b0 : Int32) (M : PM) (l : Launch), Ctr l Sh yX3_sum cX3_sum 5 (some .int) (d + 20) rvI [.ref 72, .int b0] M (f_sum b0 M)) (h_thing : ∀ (b0 : Int32) (M : PM) (l : Launch), Ctr l Sh yX3_thing cX3_thing 4 (some .int) (d + 20) rvI [.ref 72, .int b0] M (f_thing b0 M)) (p1 : Int32) (M : PM) : T_b_m_held G d M 0 (ent [.ref 72, .int p1] 3) [] (b_m_held f_held f_product f_sum f_thing p1 M) := by
  unfold b_m_held
  refine J_aload_n (pc := 0) dX3_held_0 rfl ?_
  refine J_iload_n (pc := 1) dX3_held_1 rfl ?_
  refine J_callV (pc := 2) (n := 1) (b := 72) (vs := [.int p1]) (ci := 2) (fun l => h_sum p1 M l) (lw_V q1364 q1366 qs73 q118 q1367) nmv_X3_sum rfl (by omega) (by decide) rfl (fun h => sh_k1 h 52 rfl) rfl (Nat.le_of_ble_eq_true rfl) dX3_held_2 (fun v1 M1 => ?_)
  refine J_istore_n (pc := 5) dX3_held_5 (by decide) ?_
  refine J_aload_n (pc := 6) dX3_held_6 rfl ?_
  refine J_bipush (pc := 7) 60 dX3_held_7 (by decide) ?_
  refine J_callV (pc := 9) (n := 1) (b := 72) (vs := [.int 60]) (ci := 2) (fun l => C_m_passes l 60 M1) (lw_V q1328 q1330 qs67 q118 q1331) nmv_X3_passes rfl (by omega) (by decide) rfl (fun h => sh_k1 h 52 rfl) rfl (Nat.le_of_ble_eq_true rfl) dX3_held_9 (fun v2 M2 => ?_)
  refine J_if_eq (pc := 12) 30 dX3_held_12 rfl (fun h => if_pos h) (fun h => if_neg h) (fun _ => ?_) (fun _ => ?_)
  · refine J_aload_n (pc := 30) dX3_held_30 rfl ?_
    refine J_bipush (pc := 31) 62 dX3_held_31 (by decide) ?_
    refine J_callV (pc := 33) (n := 1) (b := 72) (vs := [.int 62]) (ci := 2) (fun l => C_m_passes l 62 M2) (lw_V q1328 q1330 qs67 q118 q1331) nmv_X3_passes rfl (by omega) (by decide) rfl (fun h => sh_k1 h 52 rfl) rfl (Nat.le_of_ble_eq_true rfl) dX3_held_33 (fun v3 M3 => ?_)
    refine J_if_eq (pc := 36) 54 dX3_held_36 rfl (fun h => if_pos h) (fun h => if_neg h) (fun _ => ?_) (fun _ => ?_)
    · refine J_aload_n (pc := 54) dX3_held_54 rfl ?_
      refine J_bipush (pc := 55) 61 dX3_held_55 (by decide) ?_
      refine J_callV (pc := 57) (n := 1) (b := 72) (vs := [.int 61]) (ci := 2) (fun l => C_m_passes l 61 M3) (lw_V q1328 q1330 qs67 q118 q1331) nmv_X3_passes rfl (by omega) (by decide) rfl (fun h => sh_k1 h 52 rfl) rfl (Nat.le_of_ble_eq_true rfl) dX3_held_57 (fun v4 M4 => ?_)
      refine J_if_eq (pc := 60) 78 dX3_held_60 rfl (fun h => if_pos h) (fun h => if_neg h) (fun _ => ?_) (fun _ => ?_)
      · refine J_iload_n (pc := 78) dX3_held_78 rfl ?_
        exact J_iret (pc := 79) dX3_held_79
      · refine J_iload_n (pc := 63) dX3_held_63 rfl ?_
        refine J_aload_n (pc := 64) dX3_held_64 rfl ?_
        refine J_iload_n (pc := 65) dX3_held_65 rfl ?_
        refine J_callV (pc := 66) (n := 1) (b := 72) (vs := [.int p1]) (ci := 2) (fun l => h_sum p1 M4 l) (lw_V q1364 q1366 qs73 q118 q1367) nmv_X3_sum rfl (by omega) (by decide) rfl (fun h => sh_k1 h 52 rfl) rfl (Nat.le_of_ble_eq_true rfl) dX3_held_66 (fun v5 M5 => ?_)
        refine J_icmp_ne (pc := 69) 76 dX3_held_69 rfl (fun h => if_neg h) (fun h => if_pos h) (fun _ => ?_) (fun _ => ?_)
        · refine J_iconst (pc := 76) 0 dX3_held_76 (by decide) ?_
          exact J_iret (pc := 77) dX3_held_77
        · refine J_iconst (pc := 72) 1 dX3_held_72 (by decide) ?_
          refine J_goto (pc := 73) 77 dX3_held_73 rfl ?_
          exact J_iret (pc := 77) dX3_held_77
    · refine J_iload_n (pc := 39) dX3_held_39 rfl ?_
      refine J_aload_n (pc := 40) dX3_held_40 rfl ?_
      refine J_iload_n (pc := 41) dX3_held_41 rfl ?_
      refine J_callV (pc := 42) (n := 1) (b := 72) (vs := [.int p1]) (ci := 2) (fun l => h_sum p1 M3 l) (lw_V q1364 q1366 qs73 q118 q1367) nmv_X3_sum rfl (by omega) (by decide) rfl (fun h => sh_k1 h 52 rfl) rfl (Nat.le_of_ble_eq_true rfl) dX3_held_42 (fun v6 M6 => ?_)
      refine J_icmp_le (pc := 45) 52 dX3_held_45 rfl (fun h => if_pos h) (fun h => if_neg h) (fun _ => ?_) (fun _ => ?_)
      · refine J_iconst (pc := 52) 0 dX3_held_52 (by decide) ?_
        exact J_iret (pc := 53) dX3_held_53
      · refine J_iconst (pc := 48) 1 dX3_held_48 (by decide) ?_
        refine J_goto (pc := 49) 53 dX3_held_49 rfl ?_
        exact J_iret (pc := 53) dX3_held_53
  · refine J_iload_n (pc := 15) dX3_held_15 rfl ?_
    refine J_aload_n (pc := 16) dX3_held_16 rfl ?_
    refine J_iload_n (pc := 17) dX3_held_17 rfl ?_
    refine J_callV (pc := 18) (n := 1) (b := 72) (vs := [.int p1]) (ci := 2) (fun l => h_sum p1 M2 l) (lw_V q1364 q1366 qs73 q118 q1367) nmv_X3_sum rfl (by omega) (by decide) rfl (fun h => sh_k1 h 52 rfl) rfl (Nat.le_of_ble_eq_true rfl) dX3_held_18 (fun v7 M7 => ?_)
    refine J_icmp_ge (pc := 21) 28 dX3_held_21 rfl (fun h => if_pos h) (fun h => if_neg h) (fun _ => ?_) (fun _ => ?_)
    · refine J_iconst (pc := 28) 0 dX3_held_28 (by decide) ?_
      exact J_iret (pc := 29) dX3_held_29
    · refine J_iconst (pc := 24) 1 dX3_held_24 (by decide) ?_
      refine J_goto (pc := 25) 29 dX3_held_25 rfl ?_
      exact J_iret (pc := 29) dX3_held_29

def G_m_held : Nat → (Int32 → PM → Option (Int32 × PM)) × (Int32 → PM → Option (Int32 × PM)) × (Int32 → PM → Option (Int32 × PM)) × (Int32 → PM → Option (Int32 × PM))
  | 0 => (fun _ _ => none, fun _ _ => none, fun _ _ => none, fun _ _ => none)
  | n + 1 => (b_m_held ((G_m_held n).1) ((G_m_held n).2.1) ((G_m_held n).2.2.1) ((G_m_held n).2.2.2), b_m_product ((G_m_held n).1) ((G_m_held n).2.1) ((G_m_held n).2.2.1) ((G_m_held n).2.2.2), b_m_sum ((G_m_held n).1) ((G_m_held n).2.1) ((G_m_held n).2.2.1) ((G_m_held n).2.2.2), b_m_thing ((G_m_held n).1) ((G_m_held n).2.1) ((G_m_held n).2.2.1) ((G_m_held n).2.2.2))
theorem CG_m_held : ∀ d : Nat, (∀ (b0 : Int32) (M : PM) (l : Launch), Ctr l Sh yX3_held cX3_held 3 (some .int) (d + 20) rvI [.ref 72, .int b0] M ((G_m_held d).1 b0 M)) ∧ (∀ (b0 : Int32) (M : PM) (l : Launch), Ctr l Sh yX3_product cX3_product 5 (some .int) (d + 20) rvI [.ref 72, .int b0] M ((G_m_held d).2.1 b0 M)) ∧ (∀ (b0 : Int32) (M : PM) (l : Launch), Ctr l Sh yX3_sum cX3_sum 5 (some .int) (d + 20) rvI [.ref 72, .int b0] M ((G_m_held d).2.2.1 b0 M)) ∧ (∀ (b0 : Int32) (M : PM) (l : Launch), Ctr l Sh yX3_thing cX3_thing 4 (some .int) (d + 20) rvI [.ref 72, .int b0] M ((G_m_held d).2.2.2 b0 M)) := by
  intro d
  induction d with
  | zero => exact ⟨fun _ _ _ r M1 h => (by cases h), fun _ _ _ r M1 h => (by cases h), fun _ _ _ r M1 h => (by cases h), fun _ _ _ r M1 h => (by cases h)⟩
  | succ d ih =>
    obtain ⟨h0, h1, h2, h3⟩ := ih
    exact ⟨fun b0 M l => Ctr.of (by decide +kernel) (Nat.le_of_ble_eq_true rfl) (fun G => t_b_m_held G d _ _ _ _ h0 h1 h2 h3 b0 M), fun b0 M l => Ctr.of (by decide +kernel) (Nat.le_of_ble_eq_true rfl) (fun G => t_b_m_product G d _ _ _ _ h0 h1 h2 h3 b0 M), fun b0 M l => Ctr.of (by decide +kernel) (Nat.le_of_ble_eq_true rfl) (fun G => t_b_m_sum G d _ _ _ _ h0 h1 h2 h3 b0 M), fun b0 M l => Ctr.of (by decide +kernel) (Nat.le_of_ble_eq_true rfl) (fun G => t_b_m_thing G d _ _ _ _ h0 h1 h2 h3 b0 M)⟩
def m_held (b0 : Int32) (M : PM) : Option (Int32 × PM) := (G_m_held 120).1 b0 M
theorem C_m_held (l : Launch) (b0 : Int32) (M : PM) : Ctr l Sh yX3_held cX3_held 3 (some .int) 140 rvI [.ref 72, .int b0] M (m_held b0 M) := (CG_m_held 120).1 b0 M l
def m_product (b0 : Int32) (M : PM) : Option (Int32 × PM) := (G_m_held 120).2.1 b0 M
theorem C_m_product (l : Launch) (b0 : Int32) (M : PM) : Ctr l Sh yX3_product cX3_product 5 (some .int) 140 rvI [.ref 72, .int b0] M (m_product b0 M) := (CG_m_held 120).2.1 b0 M l
def m_sum (b0 : Int32) (M : PM) : Option (Int32 × PM) := (G_m_held 120).2.2.1 b0 M
theorem C_m_sum (l : Launch) (b0 : Int32) (M : PM) : Ctr l Sh yX3_sum cX3_sum 5 (some .int) 140 rvI [.ref 72, .int b0] M (m_sum b0 M) := (CG_m_held 120).2.2.1 b0 M l
def m_thing (b0 : Int32) (M : PM) : Option (Int32 × PM) := (G_m_held 120).2.2.2 b0 M
theorem C_m_thing (l : Launch) (b0 : Int32) (M : PM) : Ctr l Sh yX3_thing cX3_thing 4 (some .int) 140 rvI [.ref 72, .int b0] M (m_thing b0 M) := (CG_m_held 120).2.2.2 b0 M l
abbrev T_m_readRule (G : JG) (M : PM) (pc : Nat) (L : List (Option Value)) (S : List Value) (o : Option (Int32 × PM)) : Prop := JJ G cX3_readRule yX3_readRule 1 141 (some .boolean) Sh (finR G Sh rvI) M pc L S o
def m_readRule (M : PM) : Option (Int32 × PM) :=
    bd (m_beginText 40 M) fun _ M1 =>
    lt (M1.si 72 25 0) fun M2 =>
    jn (fun (M3 : PM) =>
    bd (m_wasRight M3) fun v1 M4 =>
    ckb (v1 = 0 ∨ v1 = 1) <|
    some (v1, M4)) fun j1 =>
    if (M2.i 72 15) ≤ 0 then (j1 M2)
    else (bd (m_held 0 M2) fun v2 M5 =>
    j1 M5)

set_option maxHeartbeats 4000000 in
theorem t_m_readRule (G : JG) (M : PM) : T_m_readRule G  M 0 (ent [.ref 72] 1) [] (m_readRule M) := by
  unfold m_readRule
  refine J_aload_n (pc := 0) dX3_readRule_0 rfl ?_
  refine J_bipush (pc := 1) 40 dX3_readRule_1 (by decide) ?_
  refine J_callV (pc := 3) (n := 1) (b := 72) (vs := [.int 40]) (ci := 2) (fun l => C_m_beginText l 40 M) (lw_V q1300 q1302 qs60 q118 q1303) nmv_X3_beginText rfl (by omega) (by decide) rfl (fun h => sh_k1 h 52 rfl) rfl (Nat.le_of_ble_eq_true rfl) dX3_readRule_3 (fun _ M1 => ?_)
  refine J_aload_n (pc := 6) dX3_readRule_6 rfl ?_
  refine J_iconst (pc := 7) 0 dX3_readRule_7 (by decide) ?_
  refine J_put (pc := 8) (a := 72) (v := .int 0) (M' := M1.si 72 25 0) (c := 2) rfl in_X3 tyX3_ok fnX3 25 (by decide) q1132 rfl (Or.inl rfl) (fun h => sh_k1 h 52 rfl) (fun _ => rfl) (fun _ => rfl) ⟨⟨rfl, rfl⟩, rfl⟩ (fun _ hb => up2_same hb) (fun _ _ => rfl) (fun _ _ => rfl) (put_i (fun _ _ _ => rfl)) (fun h => Sh_si h) dX3_readRule_8 ?_
  refine J_ltM (fun M2 => ?_)
  refine J_aload_n (pc := 11) dX3_readRule_11 rfl ?_
  refine J_get (pc := 12) (c := 2) (.int (M2.i 72 15)) rfl in_X3 15 (by decide) q1122 rfl (fun h => sh_k1 h 52 rfl) (fun _ _ => rfl) dX3_readRule_12 ?_
  refine J_jn (P := fun J => ∀ (M3 : PM), T_m_readRule G  M3 24 [some (.ref 72)] [] (J M3)) (fun M3 => ?_) (fun j1 hj1 => ?_)
  · refine J_aload_n (pc := 24) dX3_readRule_24 rfl ?_
    refine J_callV (pc := 25) (n := 0) (b := 72) (vs := []) (ci := 2) (fun l => C_m_wasRight l  M3) (lw_V q1332 q1334 qs68 q118 q1335) nmv_X3_wasRight rfl (by omega) (by decide) rfl (fun h => sh_k1 h 52 rfl) rfl (Nat.le_of_ble_eq_true rfl) dX3_readRule_25 (fun v1 M4 => ?_)
    refine J_ckb (fun h1 => ?_)
    exact J_zret (pc := 28) (nz h1) dX3_readRule_28
  refine J_if_le (pc := 15) 24 dX3_readRule_15 rfl (fun h => if_pos h) (fun h => if_neg h) (fun _ => ?_) (fun _ => ?_)
  · exact J_sub (A := [some (.ref 72)]) ⟨rfl, trivial⟩ (hj1 M2)
  · refine J_aload_n (pc := 18) dX3_readRule_18 rfl ?_
    refine J_iconst (pc := 19) 0 dX3_readRule_19 (by decide) ?_
    refine J_callV (pc := 20) (n := 1) (b := 72) (vs := [.int 0]) (ci := 2) (fun l => C_m_held l 0 M2) (lw_V q1360 q1362 qs72 q118 q1363) nmv_X3_held rfl (by omega) (by decide) rfl (fun h => sh_k1 h 52 rfl) rfl (Nat.le_of_ble_eq_true rfl) dX3_readRule_20 (fun v2 M5 => ?_)
    refine J_pop (pc := 23) dX3_readRule_23 rfl ?_
    exact J_sub (A := [some (.ref 72)]) ⟨rfl, trivial⟩ (hj1 M5)

theorem C_m_readRule (l : Launch) (M : PM) : Ctr l Sh yX3_readRule cX3_readRule 1 (some .boolean) 141 rvI [.ref 72] M (m_readRule M) := Ctr.of (by decide +kernel) (Nat.le_of_ble_eq_true rfl) (fun G => t_m_readRule G M)

abbrev T_m_rule (G : JG) (M : PM) (pc : Nat) (L : List (Option Value)) (S : List Value) (o : Option (Int32 × PM)) : Prop := JJ G cX3_rule yX3_rule 3 142 (some .int) Sh (finR G Sh rvI) M pc L S o
def m_rule_L26 (c1 : Int32) (k49 : PM → Option (Int32 × PM)) : Nat → Int32 → PM → Option (Int32 × PM)
  | 0, _, _ => none
  | n + 1, v3, M3 =>
    if c1 ≤ v3 then (k49 M3)
    else (lt (M3.r 72 22) fun r1 =>
    ck v3 80 <|
    rf r1 fun a1 =>
    cka M3 a1 21 v3 <|
    lt (M3.si a1 (ix v3) ((Int32.toInt8 (M3.i 78 (ix v3))).toInt32)) fun M4 =>
    lt (v3 + 1) fun v4 =>
    m_rule_L26 c1 k49 n v4 M4)

set_option maxHeartbeats 4000000 in
theorem t_m_rule_L26 (G : JG) (c1 : Int32) (k49 : PM → Option (Int32 × PM)) (hk49 : ∀ Me, T_m_rule G  Me 49 [some (.ref 72), some (.int c1), none] [] (k49 Me)) : ∀ (n : Nat) (v3 : Int32) (M3 : PM), T_m_rule G  M3 26 [some (.ref 72), some (.int c1), some (.int v3)] [] (m_rule_L26 c1 k49 n v3 M3) := by
  intro n
  induction n with
  | zero =>
    intro v3 M3
    exact J_none
  | succ n ih =>
    intro v3 M3
    rw [m_rule_L26]
    refine J_iload_n (pc := 26) dX3_rule_26 rfl ?_
    refine J_iload_n (pc := 27) dX3_rule_27 rfl ?_
    refine J_icmp_ge (pc := 28) 49 dX3_rule_28 rfl (fun h => if_pos h) (fun h => if_neg h) (fun _ => ?_) (fun _ => ?_)
    · exact J_sub (A := [some (.ref 72), some (.int c1), none]) ⟨rfl, ⟨rfl, trivial⟩⟩ (hk49 M3)
    · refine J_aload_n (pc := 31) dX3_rule_31 rfl ?_
      refine J_getO (pc := 32) (c := 2) rfl in_X3 22 (by decide) q1129 rfl (fun h => sh_k1 h 52 rfl) (fun _ _ => fv_rf (Or.inr ⟨_, rfl⟩)) dX3_rule_32 (fun r1 => ?_)
      refine J_iload_n (pc := 35) dX3_rule_35 rfl ?_
      refine J_aload_n (pc := 36) dX3_rule_36 rfl ?_
      refine J_get (pc := 37) (c := 2) (.ref 78) rfl in_X3 9 (by decide) q1116 rfl (fun h => sh_k1 h 52 rfl) (fun h _ => fv_ref (Or.inr ⟨_, rfl⟩) (sh_r h 56 rfl)) dX3_rule_37 ?_
      refine J_iload_n (pc := 40) dX3_rule_40 rfl ?_
      refine J_ck (fun h1 => ?_)
      refine J_bald (pc := 41) (a := 78) (fun h => sh_a h 58 rfl h1) dX3_rule_41 ?_
      refine J_rfe (fun a1 ea1 => ?_)
      subst ea1
      refine J_cka (fun h2 h22 => ?_)
      refine J_bast (pc := 42) (a := a1) (fun _ => ⟨h2, h22⟩) (fun h => Sh_si h) dX3_rule_42 ?_
      refine J_ltM (fun M4 => ?_)
      refine J_iincL (pc := 43) (n := 1) (by decide) dX3_rule_43 rfl (by decide) (fun v4 => ?_)
      refine J_goto (pc := 46) 26 dX3_rule_46 rfl ?_
      exact J_sub (A := [some (.ref 72), some (.int c1), some (.int v4)]) ⟨rfl, ⟨rfl, ⟨rfl, trivial⟩⟩⟩ (ih v4 M4)

def m_rule (M : PM) : Option (Int32 × PM) :=
    lt (M.si 72 13 0) fun M1 =>
    lt (M1.i 72 10) fun v1 =>
    bd (m_readRule M1) fun v2 M2 =>
    if v2 = 0 then (some (((-1) - (M2.i 72 18)), M2))
    else (m_rule_L26 v1 (fun (M5 : PM) =>
    lt (M5.si 72 24 v1) fun M6 =>
    some (0, M6)) FU 0 M2)

set_option maxHeartbeats 4000000 in
theorem t_m_rule (G : JG) (M : PM) : T_m_rule G  M 0 (ent [.ref 72] 3) [] (m_rule M) := by
  unfold m_rule
  refine J_aload_n (pc := 0) dX3_rule_0 rfl ?_
  refine J_iconst (pc := 1) 0 dX3_rule_1 (by decide) ?_
  refine J_put (pc := 2) (a := 72) (v := .int 0) (M' := M.si 72 13 0) (c := 2) rfl in_X3 tyX3_ok fnX3 13 (by decide) q1120 rfl (Or.inl rfl) (fun h => sh_k1 h 52 rfl) (fun _ => rfl) (fun _ => rfl) ⟨⟨rfl, rfl⟩, rfl⟩ (fun _ hb => up2_same hb) (fun _ _ => rfl) (fun _ _ => rfl) (put_i (fun _ _ _ => rfl)) (fun h => Sh_si h) dX3_rule_2 ?_
  refine J_ltM (fun M1 => ?_)
  refine J_aload_n (pc := 5) dX3_rule_5 rfl ?_
  refine J_get (pc := 6) (c := 2) (.int (M1.i 72 10)) rfl in_X3 10 (by decide) q1117 rfl (fun h => sh_k1 h 52 rfl) (fun _ _ => rfl) dX3_rule_6 ?_
  refine J_lt (β := Int32) (v := (M1.i 72 10)) (L := fun _ => _) (S := fun v1 => [.int v1]) (fun v1 => ?_)
  refine J_istore_n (pc := 9) dX3_rule_9 (by decide) ?_
  refine J_aload_n (pc := 10) dX3_rule_10 rfl ?_
  refine J_callV (pc := 11) (n := 0) (b := 72) (vs := []) (ci := 2) (fun l => C_m_readRule l  M1) (lw_V q1356 q1358 qs71 q118 q1359) nmv_X3_readRule rfl (by omega) (by decide) rfl (fun h => sh_k1 h 52 rfl) rfl (Nat.le_of_ble_eq_true rfl) dX3_rule_11 (fun v2 M2 => ?_)
  refine J_if_ne (pc := 14) 24 dX3_rule_14 rfl (fun h => if_neg h) (fun h => if_pos h) (fun _ => ?_) (fun _ => ?_)
  · refine J_iconst (pc := 24) 0 dX3_rule_24 (by decide) ?_
    refine J_istore_n (pc := 25) dX3_rule_25 (by decide) ?_
    refine J_sub (A := [some (.ref 72), some (.int v1), some (.int 0)]) ⟨rfl, ⟨rfl, ⟨rfl, trivial⟩⟩⟩ (t_m_rule_L26 G v1 _ ?_ FU 0 M2)
    · intro M5
      refine J_aload_n (pc := 49) dX3_rule_49 rfl ?_
      refine J_iload_n (pc := 50) dX3_rule_50 rfl ?_
      refine J_put (pc := 51) (a := 72) (v := .int v1) (M' := M5.si 72 24 v1) (c := 2) rfl in_X3 tyX3_ok fnX3 24 (by decide) q1131 rfl (Or.inl rfl) (fun h => sh_k1 h 52 rfl) (fun _ => rfl) (fun _ => rfl) ⟨⟨rfl, rfl⟩, rfl⟩ (fun _ hb => up2_same hb) (fun _ _ => rfl) (fun _ _ => rfl) (put_i (fun _ _ _ => rfl)) (fun h => Sh_si h) dX3_rule_51 ?_
      refine J_ltM (fun M6 => ?_)
      refine J_iconst (pc := 54) 0 dX3_rule_54 (by decide) ?_
      exact J_iret (pc := 55) dX3_rule_55
  · refine J_iconst (pc := 17) (-1) dX3_rule_17 (by decide) ?_
    refine J_aload_n (pc := 18) dX3_rule_18 rfl ?_
    refine J_get (pc := 19) (c := 2) (.int (M2.i 72 18)) rfl in_X3 18 (by decide) q1125 rfl (fun h => sh_k1 h 52 rfl) (fun _ _ => rfl) dX3_rule_19 ?_
    refine J_isub (pc := 22) dX3_rule_22 ?_
    exact J_iret (pc := 23) dX3_rule_23

theorem C_m_rule (l : Launch) (M : PM) : Ctr l Sh yX3_rule cX3_rule 3 (some .int) 142 rvI [.ref 72] M (m_rule M) := Ctr.of (by decide +kernel) (Nat.le_of_ble_eq_true rfl) (fun G => t_m_rule G M)

abbrev T_m_isWord (G : JG) (M : PM) (pc : Nat) (L : List (Option Value)) (S : List Value) (o : Option (Int32 × PM)) : Prop := JJ G cX3_isWord yX3_isWord 2 2 (some .boolean) Sh (finR G Sh rvI) M pc L S o
def m_isWord (p1 : Int32) (M : PM) : Option (Int32 × PM) :=
    bd (m_in p1 0 ((M.i 72 2) - 1) M) fun v1 M1 =>
    ckb (v1 = 0 ∨ v1 = 1) <|
    some (v1, M1)

set_option maxHeartbeats 4000000 in
theorem t_m_isWord (G : JG) (p1 : Int32) (M : PM) : T_m_isWord G  M 0 (ent [.ref 72, .int p1] 2) [] (m_isWord p1 M) := by
  unfold m_isWord
  refine J_iload_n (pc := 0) dX3_isWord_0 rfl ?_
  refine J_iconst (pc := 1) 0 dX3_isWord_1 (by decide) ?_
  refine J_aload_n (pc := 2) dX3_isWord_2 rfl ?_
  refine J_get (pc := 3) (c := 2) (.int (M.i 72 2)) rfl in_X3 2 (by decide) q1109 rfl (fun h => sh_k1 h 52 rfl) (fun _ _ => rfl) dX3_isWord_3 ?_
  refine J_iconst (pc := 6) 1 dX3_isWord_6 (by decide) ?_
  refine J_isub (pc := 7) dX3_isWord_7 ?_
  refine J_callS (pc := 8) (n := 3) (vs := [.int p1, .int 0, .int ((M.i 72 2) - 1)]) (fun l => C_m_in l p1 0 ((M.i 72 2) - 1) M) (lw_S q1289 q1290 q118 q1291) nmh_X3_in rfl (by omega) (by decide) rfl (Nat.le_of_ble_eq_true rfl) dX3_isWord_8 (fun v1 M1 => ?_)
  refine J_ckb (fun h1 => ?_)
  exact J_zret (pc := 11) (nz h1) dX3_isWord_11

theorem C_m_isWord (l : Launch) (p1 : Int32) (M : PM) : Ctr l Sh yX3_isWord cX3_isWord 2 (some .boolean) 2 rvI [.ref 72, .int p1] M (m_isWord p1 M) := Ctr.of (by decide +kernel) (Nat.le_of_ble_eq_true rfl) (fun G => t_m_isWord G p1 M)

abbrev T_m_lost (G : JG) (M : PM) (pc : Nat) (L : List (Option Value)) (S : List Value) (o : Option (Int32 × PM)) : Prop := JJ G cX3_lost yX3_lost 1 1 (some .int) Sh (finR G Sh rvI) M pc L S o
def m_lost (M : PM) : Option (Int32 × PM) :=
    lt (M.si 72 13 1) fun M1 =>
    some (0, M1)

set_option maxHeartbeats 4000000 in
theorem t_m_lost (G : JG) (M : PM) : T_m_lost G  M 0 (ent [.ref 72] 1) [] (m_lost M) := by
  unfold m_lost
  refine J_aload_n (pc := 0) dX3_lost_0 rfl ?_
  refine J_iconst (pc := 1) 1 dX3_lost_1 (by decide) ?_
  refine J_put (pc := 2) (a := 72) (v := .int 1) (M' := M.si 72 13 1) (c := 2) rfl in_X3 tyX3_ok fnX3 13 (by decide) q1120 rfl (Or.inl rfl) (fun h => sh_k1 h 52 rfl) (fun _ => rfl) (fun _ => rfl) ⟨⟨rfl, rfl⟩, rfl⟩ (fun _ hb => up2_same hb) (fun _ _ => rfl) (fun _ _ => rfl) (put_i (fun _ _ _ => rfl)) (fun h => Sh_si h) dX3_lost_2 ?_
  refine J_ltM (fun M1 => ?_)
  refine J_iconst (pc := 5) 0 dX3_lost_5 (by decide) ?_
  exact J_iret (pc := 6) dX3_lost_6

theorem C_m_lost (l : Launch) (M : PM) : Ctr l Sh yX3_lost cX3_lost 1 (some .int) 1 rvI [.ref 72] M (m_lost M) := Ctr.of (by decide +kernel) (Nat.le_of_ble_eq_true rfl) (fun G => t_m_lost G M)

abbrev T_m_letter (G : JG) (M : PM) (pc : Nat) (L : List (Option Value)) (S : List Value) (o : Option (Int32 × PM)) : Prop := JJ G cX3_letter yX3_letter 3 1 (some .int) Sh (finR G Sh rvI) M pc L S o
def m_letter (p1 : Int32) (p2 : Int32) (M : PM) : Option (Int32 × PM) :=
    ck ((6 * p1) + p2) 60 <|
    some ((M.i 74 (ix ((6 * p1) + p2))), M)

set_option maxHeartbeats 4000000 in
theorem t_m_letter (G : JG) (p1 : Int32) (p2 : Int32) (M : PM) : T_m_letter G  M 0 (ent [.ref 72, .int p1, .int p2] 3) [] (m_letter p1 p2 M) := by
  unfold m_letter
  refine J_aload_n (pc := 0) dX3_letter_0 rfl ?_
  refine J_get (pc := 1) (c := 2) (.ref 74) rfl in_X3 3 (by decide) q1110 rfl (fun h => sh_k1 h 52 rfl) (fun h _ => fv_ref (Or.inr ⟨_, rfl⟩) (sh_r h 52 rfl)) dX3_letter_1 ?_
  refine J_bipush (pc := 4) 6 dX3_letter_4 (by decide) ?_
  refine J_iload_n (pc := 6) dX3_letter_6 rfl ?_
  refine J_imul (pc := 7) dX3_letter_7 ?_
  refine J_iload_n (pc := 8) dX3_letter_8 rfl ?_
  refine J_iadd (pc := 9) dX3_letter_9 ?_
  refine J_ck (fun h1 => ?_)
  refine J_bald (pc := 10) (a := 74) (fun h => sh_a h 54 rfl h1) dX3_letter_10 ?_
  exact J_iret (pc := 11) dX3_letter_11

theorem C_m_letter (l : Launch) (p1 : Int32) (p2 : Int32) (M : PM) : Ctr l Sh yX3_letter cX3_letter 3 (some .int) 1 rvI [.ref 72, .int p1, .int p2] M (m_letter p1 p2 M) := Ctr.of (by decide +kernel) (Nat.le_of_ble_eq_true rfl) (fun G => t_m_letter G p1 p2 M)

abbrev T_m_vowelOf (G : JG) (M : PM) (pc : Nat) (L : List (Option Value)) (S : List Value) (o : Option (Int32 × PM)) : Prop := JJ G cX3_vowelOf yX3_vowelOf 1 1 (some .int) Sh (finR G Sh rvI) M pc L S o
def m_vowelOf (p0 : Int32) (M : PM) : Option (Int32 × PM) :=
    if p0 = 0 then (some (0, M))
    else (if p0 = 4 then (some (1, M))
    else (if p0 = 8 then (some (2, M))
    else (if p0 = 14 then (some (3, M))
    else (if p0 = 20 then (some (4, M))
    else (some ((-1), M))))))

set_option maxHeartbeats 4000000 in
theorem t_m_vowelOf (G : JG) (p0 : Int32) (M : PM) : T_m_vowelOf G  M 0 (ent [.int p0] 1) [] (m_vowelOf p0 M) := by
  unfold m_vowelOf
  refine J_iload_n (pc := 0) dX3_vowelOf_0 rfl ?_
  refine J_if_ne (pc := 1) 8 dX3_vowelOf_1 rfl (fun h => if_neg h) (fun h => if_pos h) (fun _ => ?_) (fun _ => ?_)
  · refine J_iload_n (pc := 8) dX3_vowelOf_8 rfl ?_
    refine J_iconst (pc := 9) 4 dX3_vowelOf_9 (by decide) ?_
    refine J_icmp_ne (pc := 10) 17 dX3_vowelOf_10 rfl (fun h => if_neg h) (fun h => if_pos h) (fun _ => ?_) (fun _ => ?_)
    · refine J_iload_n (pc := 17) dX3_vowelOf_17 rfl ?_
      refine J_bipush (pc := 18) 8 dX3_vowelOf_18 (by decide) ?_
      refine J_icmp_ne (pc := 20) 27 dX3_vowelOf_20 rfl (fun h => if_neg h) (fun h => if_pos h) (fun _ => ?_) (fun _ => ?_)
      · refine J_iload_n (pc := 27) dX3_vowelOf_27 rfl ?_
        refine J_bipush (pc := 28) 14 dX3_vowelOf_28 (by decide) ?_
        refine J_icmp_ne (pc := 30) 37 dX3_vowelOf_30 rfl (fun h => if_neg h) (fun h => if_pos h) (fun _ => ?_) (fun _ => ?_)
        · refine J_iload_n (pc := 37) dX3_vowelOf_37 rfl ?_
          refine J_bipush (pc := 38) 20 dX3_vowelOf_38 (by decide) ?_
          refine J_icmp_ne (pc := 40) 47 dX3_vowelOf_40 rfl (fun h => if_neg h) (fun h => if_pos h) (fun _ => ?_) (fun _ => ?_)
          · refine J_iconst (pc := 47) (-1) dX3_vowelOf_47 (by decide) ?_
            exact J_iret (pc := 48) dX3_vowelOf_48
          · refine J_iconst (pc := 43) 4 dX3_vowelOf_43 (by decide) ?_
            refine J_goto (pc := 44) 48 dX3_vowelOf_44 rfl ?_
            exact J_iret (pc := 48) dX3_vowelOf_48
        · refine J_iconst (pc := 33) 3 dX3_vowelOf_33 (by decide) ?_
          refine J_goto (pc := 34) 48 dX3_vowelOf_34 rfl ?_
          exact J_iret (pc := 48) dX3_vowelOf_48
      · refine J_iconst (pc := 23) 2 dX3_vowelOf_23 (by decide) ?_
        refine J_goto (pc := 24) 48 dX3_vowelOf_24 rfl ?_
        exact J_iret (pc := 48) dX3_vowelOf_48
    · refine J_iconst (pc := 13) 1 dX3_vowelOf_13 (by decide) ?_
      refine J_goto (pc := 14) 48 dX3_vowelOf_14 rfl ?_
      exact J_iret (pc := 48) dX3_vowelOf_48
  · refine J_iconst (pc := 4) 0 dX3_vowelOf_4 (by decide) ?_
    refine J_goto (pc := 5) 48 dX3_vowelOf_5 rfl ?_
    exact J_iret (pc := 48) dX3_vowelOf_48

theorem C_m_vowelOf (l : Launch) (p0 : Int32) (M : PM) : Ctr l Sh yX3_vowelOf cX3_vowelOf 1 (some .int) 1 rvI [.int p0] M (m_vowelOf p0 M) := Ctr.of (by decide +kernel) (Nat.le_of_ble_eq_true rfl) (fun G => t_m_vowelOf G p0 M)

abbrev T_m_often (G : JG) (M : PM) (pc : Nat) (L : List (Option Value)) (S : List Value) (o : Option (Int32 × PM)) : Prop := JJ G cX3_often yX3_often 5 2 (some .int) Sh (finR G Sh rvI) M pc L S o
def m_often_L5 (c1 : Int32) (c2 : Int32) : Nat → Int32 → Int32 → PM → Option (Int32 × PM)
  | 0, _, _, _ => none
  | n + 1, v1, v2, M1 =>
    ck c1 10 <|
    if (M1.i 75 (ix c1)) ≤ v2 then (some (v1, M1))
    else (bd (m_letter c1 v2 M1) fun v3 M2 =>
    bd (m_vowelOf v3 M2) fun v4 M3 =>
    lt (if v4 = c2 then 1 else 0 : Int32) fun v5 =>
    lt (v1 + v5) fun v6 =>
    lt (v2 + 1) fun v7 =>
    m_often_L5 c1 c2 n v6 v7 M3)

set_option maxHeartbeats 4000000 in
theorem t_m_often_L5 (G : JG) (c1 : Int32) (c2 : Int32) : ∀ (n : Nat) (v1 : Int32) (v2 : Int32) (M1 : PM), T_m_often G  M1 5 [some (.ref 72), some (.int c1), some (.int c2), some (.int v1), some (.int v2)] [] (m_often_L5 c1 c2 n v1 v2 M1) := by
  intro n
  induction n with
  | zero =>
    intro v1 v2 M1
    exact J_none
  | succ n ih =>
    intro v1 v2 M1
    rw [m_often_L5]
    refine J_iload (pc := 5) dX3_often_5 rfl ?_
    refine J_aload_n (pc := 7) dX3_often_7 rfl ?_
    refine J_get (pc := 8) (c := 2) (.ref 75) rfl in_X3 4 (by decide) q1111 rfl (fun h => sh_k1 h 52 rfl) (fun h _ => fv_ref (Or.inr ⟨_, rfl⟩) (sh_r h 53 rfl)) dX3_often_8 ?_
    refine J_iload_n (pc := 11) dX3_often_11 rfl ?_
    refine J_ck (fun h1 => ?_)
    refine J_iald (pc := 12) (a := 75) (fun h => sh_a h 55 rfl h1) dX3_often_12 ?_
    refine J_icmp_ge (pc := 13) 44 dX3_often_13 rfl (fun h => if_pos h) (fun h => if_neg h) (fun _ => ?_) (fun _ => ?_)
    · refine J_iload_n (pc := 44) dX3_often_44 rfl ?_
      exact J_iret (pc := 45) dX3_often_45
    · refine J_iload_n (pc := 16) dX3_often_16 rfl ?_
      refine J_aload_n (pc := 17) dX3_often_17 rfl ?_
      refine J_iload_n (pc := 18) dX3_often_18 rfl ?_
      refine J_iload (pc := 19) dX3_often_19 rfl ?_
      refine J_callV (pc := 21) (n := 2) (b := 72) (vs := [.int c1, .int v2]) (ci := 2) (fun l => C_m_letter l c1 v2 M1) (lw_V q1399 q1401 qs80 q118 q1402) nmv_X3_letter rfl (by omega) (by decide) rfl (fun h => sh_k1 h 52 rfl) rfl (Nat.le_of_ble_eq_true rfl) dX3_often_21 (fun v3 M2 => ?_)
      refine J_callS (pc := 24) (n := 1) (vs := [.int v3]) (fun l => C_m_vowelOf l v3 M2) (lw_S q1403 q1404 q118 q1405) nmh_X3_vowelOf rfl (by omega) (by decide) rfl (Nat.le_of_ble_eq_true rfl) dX3_often_24 (fun v4 M3 => ?_)
      refine J_iload_n (pc := 27) dX3_often_27 rfl ?_
      refine J_ltj (β := Int32) (P := fun J => ∀ v5 : Int32, T_m_often G M3 36 [some (.ref 72), some (.int c1), some (.int c2), none, some (.int v2)] [.int v5, .int v1] (J v5)) (fun v5 => ?_) (fun j1 hj1 => ?_)
      · refine J_iadd (pc := 36) dX3_often_36 ?_
        refine J_lt (β := Int32) (v := (v1 + v5)) (L := fun _ => _) (S := fun v6 => [.int v6]) (fun v6 => ?_)
        refine J_istore_n (pc := 37) dX3_often_37 (by decide) ?_
        refine J_iincL (pc := 38) (n := 1) (by decide) dX3_often_38 rfl (by decide) (fun v7 => ?_)
        refine J_goto (pc := 41) 5 dX3_often_41 rfl ?_
        exact J_sub (A := [some (.ref 72), some (.int c1), some (.int c2), some (.int v6), some (.int v7)]) ⟨rfl, ⟨rfl, ⟨rfl, ⟨rfl, ⟨rfl, trivial⟩⟩⟩⟩⟩ (ih v6 v7 M3)
      refine J_icmp_ne (pc := 28) 35 dX3_often_28 rfl (fun h => congrArg j1 (if_neg h)) (fun h => congrArg j1 (if_pos h)) (fun _ => ?_) (fun _ => ?_)
      · refine J_iconst (pc := 35) 0 dX3_often_35 (by decide) ?_
        exact J_sub (A := [some (.ref 72), some (.int c1), some (.int c2), none, some (.int v2)]) ⟨rfl, ⟨rfl, ⟨rfl, ⟨rfl, trivial⟩⟩⟩⟩ (hj1 0)
      · refine J_iconst (pc := 31) 1 dX3_often_31 (by decide) ?_
        refine J_goto (pc := 32) 36 dX3_often_32 rfl ?_
        exact J_sub (A := [some (.ref 72), some (.int c1), some (.int c2), none, some (.int v2)]) ⟨rfl, ⟨rfl, ⟨rfl, ⟨rfl, trivial⟩⟩⟩⟩ (hj1 1)

def m_often (p1 : Int32) (p2 : Int32) (M : PM) : Option (Int32 × PM) :=
    m_often_L5 p1 p2 FU 0 0 M

set_option maxHeartbeats 4000000 in
theorem t_m_often (G : JG) (p1 : Int32) (p2 : Int32) (M : PM) : T_m_often G  M 0 (ent [.ref 72, .int p1, .int p2] 5) [] (m_often p1 p2 M) := by
  unfold m_often
  refine J_iconst (pc := 0) 0 dX3_often_0 (by decide) ?_
  refine J_istore_n (pc := 1) dX3_often_1 (by decide) ?_
  refine J_iconst (pc := 2) 0 dX3_often_2 (by decide) ?_
  refine J_istore (pc := 3) dX3_often_3 (by decide) ?_
  refine J_sub (A := [some (.ref 72), some (.int p1), some (.int p2), some (.int 0), some (.int 0)]) ⟨rfl, ⟨rfl, ⟨rfl, ⟨rfl, ⟨rfl, trivial⟩⟩⟩⟩⟩ (t_m_often_L5 G p1 p2  FU 0 0 M)

theorem C_m_often (l : Launch) (p1 : Int32) (p2 : Int32) (M : PM) : Ctr l Sh yX3_often cX3_often 5 (some .int) 2 rvI [.ref 72, .int p1, .int p2] M (m_often p1 p2 M) := Ctr.of (by decide +kernel) (Nat.le_of_ble_eq_true rfl) (fun G => t_m_often G p1 p2 M)

abbrev T_m_vowelsIn (G : JG) (M : PM) (pc : Nat) (L : List (Option Value)) (S : List Value) (o : Option (Int32 × PM)) : Prop := JJ G cX3_vowelsIn yX3_vowelsIn 4 3 (some .int) Sh (finR G Sh rvI) M pc L S o
def m_vowelsIn_L4 (c1 : Int32) : Nat → Int32 → Int32 → PM → Option (Int32 × PM)
  | 0, _, _, _ => none
  | n + 1, v1, v2, M1 =>
    if 5 ≤ v2 then (some (v1, M1))
    else (bd (m_often c1 v2 M1) fun v3 M2 =>
    lt (v1 + v3) fun v4 =>
    lt (v2 + 1) fun v5 =>
    m_vowelsIn_L4 c1 n v4 v5 M2)

set_option maxHeartbeats 4000000 in
theorem t_m_vowelsIn_L4 (G : JG) (c1 : Int32) : ∀ (n : Nat) (v1 : Int32) (v2 : Int32) (M1 : PM), T_m_vowelsIn G  M1 4 [some (.ref 72), some (.int c1), some (.int v1), some (.int v2)] [] (m_vowelsIn_L4 c1 n v1 v2 M1) := by
  intro n
  induction n with
  | zero =>
    intro v1 v2 M1
    exact J_none
  | succ n ih =>
    intro v1 v2 M1
    rw [m_vowelsIn_L4]
    refine J_iload_n (pc := 4) dX3_vowelsIn_4 rfl ?_
    refine J_iconst (pc := 5) 5 dX3_vowelsIn_5 (by decide) ?_
    refine J_icmp_ge (pc := 6) 24 dX3_vowelsIn_6 rfl (fun h => if_pos h) (fun h => if_neg h) (fun _ => ?_) (fun _ => ?_)
    · refine J_iload_n (pc := 24) dX3_vowelsIn_24 rfl ?_
      exact J_iret (pc := 25) dX3_vowelsIn_25
    · refine J_iload_n (pc := 9) dX3_vowelsIn_9 rfl ?_
      refine J_aload_n (pc := 10) dX3_vowelsIn_10 rfl ?_
      refine J_iload_n (pc := 11) dX3_vowelsIn_11 rfl ?_
      refine J_iload_n (pc := 12) dX3_vowelsIn_12 rfl ?_
      refine J_callV (pc := 13) (n := 2) (b := 72) (vs := [.int c1, .int v2]) (ci := 2) (fun l => C_m_often l c1 v2 M1) (lw_V q1395 q1397 qs79 q118 q1398) nmv_X3_often rfl (by omega) (by decide) rfl (fun h => sh_k1 h 52 rfl) rfl (Nat.le_of_ble_eq_true rfl) dX3_vowelsIn_13 (fun v3 M2 => ?_)
      refine J_iadd (pc := 16) dX3_vowelsIn_16 ?_
      refine J_lt (β := Int32) (v := (v1 + v3)) (L := fun _ => _) (S := fun v4 => [.int v4]) (fun v4 => ?_)
      refine J_istore_n (pc := 17) dX3_vowelsIn_17 (by decide) ?_
      refine J_iincL (pc := 18) (n := 1) (by decide) dX3_vowelsIn_18 rfl (by decide) (fun v5 => ?_)
      refine J_goto (pc := 21) 4 dX3_vowelsIn_21 rfl ?_
      exact J_sub (A := [some (.ref 72), some (.int c1), some (.int v4), some (.int v5)]) ⟨rfl, ⟨rfl, ⟨rfl, ⟨rfl, trivial⟩⟩⟩⟩ (ih v4 v5 M2)

def m_vowelsIn (p1 : Int32) (M : PM) : Option (Int32 × PM) :=
    m_vowelsIn_L4 p1 FU 0 0 M

set_option maxHeartbeats 4000000 in
theorem t_m_vowelsIn (G : JG) (p1 : Int32) (M : PM) : T_m_vowelsIn G  M 0 (ent [.ref 72, .int p1] 4) [] (m_vowelsIn p1 M) := by
  unfold m_vowelsIn
  refine J_iconst (pc := 0) 0 dX3_vowelsIn_0 (by decide) ?_
  refine J_istore_n (pc := 1) dX3_vowelsIn_1 (by decide) ?_
  refine J_iconst (pc := 2) 0 dX3_vowelsIn_2 (by decide) ?_
  refine J_istore_n (pc := 3) dX3_vowelsIn_3 (by decide) ?_
  refine J_sub (A := [some (.ref 72), some (.int p1), some (.int 0), some (.int 0)]) ⟨rfl, ⟨rfl, ⟨rfl, ⟨rfl, trivial⟩⟩⟩⟩ (t_m_vowelsIn_L4 G p1  FU 0 0 M)

theorem C_m_vowelsIn (l : Launch) (p1 : Int32) (M : PM) : Ctr l Sh yX3_vowelsIn cX3_vowelsIn 4 (some .int) 3 rvI [.ref 72, .int p1] M (m_vowelsIn p1 M) := Ctr.of (by decide +kernel) (Nat.le_of_ble_eq_true rfl) (fun G => t_m_vowelsIn G p1 M)

abbrev T_m_word (G : JG) (M : PM) (pc : Nat) (L : List (Option Value)) (S : List Value) (o : Option (Int32 × PM)) : Prop := JJ G cX3_word yX3_word 3 4 (some .int) Sh (finR G Sh rvI) M pc L S o
def m_word (p1 : Int32) (p2 : Int32) (M : PM) : Option (Int32 × PM) :=
    lt (M.si 72 13 0) fun M1 =>
    bd (m_isWord p1 M1) fun v1 M2 =>
    jn (fun (M3 : PM) =>
    bd (m_lost M3) fun v2 M4 =>
    some (v2, M4)) fun j1 =>
    if v1 = 0 then (j1 M2)
    else (bd (m_in p2 0 8 M2) fun v3 M5 =>
    if v3 = 0 then (j1 M5)
    else (if p2 = 0 then (ck p1 10 <|
    some ((M5.i 75 (ix p1)), M5))
    else (if p2 = 1 then (bd (m_vowelsIn p1 M5) fun v5 M7 =>
    some (v5, M7))
    else (if 4 ≤ p2 then (bd (m_often p1 (p2 - 4) M5) fun v4 M6 =>
    some (v4, M6))
    else (ck (((2 * p1) + p2) - 2) 20 <|
    some ((M5.i 76 (ix (((2 * p1) + p2) - 2))), M5))))))

set_option maxHeartbeats 4000000 in
theorem t_m_word (G : JG) (p1 : Int32) (p2 : Int32) (M : PM) : T_m_word G  M 0 (ent [.ref 72, .int p1, .int p2] 3) [] (m_word p1 p2 M) := by
  unfold m_word
  refine J_aload_n (pc := 0) dX3_word_0 rfl ?_
  refine J_iconst (pc := 1) 0 dX3_word_1 (by decide) ?_
  refine J_put (pc := 2) (a := 72) (v := .int 0) (M' := M.si 72 13 0) (c := 2) rfl in_X3 tyX3_ok fnX3 13 (by decide) q1120 rfl (Or.inl rfl) (fun h => sh_k1 h 52 rfl) (fun _ => rfl) (fun _ => rfl) ⟨⟨rfl, rfl⟩, rfl⟩ (fun _ hb => up2_same hb) (fun _ _ => rfl) (fun _ _ => rfl) (put_i (fun _ _ _ => rfl)) (fun h => Sh_si h) dX3_word_2 ?_
  refine J_ltM (fun M1 => ?_)
  refine J_aload_n (pc := 5) dX3_word_5 rfl ?_
  refine J_iload_n (pc := 6) dX3_word_6 rfl ?_
  refine J_callV (pc := 7) (n := 1) (b := 72) (vs := [.int p1]) (ci := 2) (fun l => C_m_isWord l p1 M1) (lw_V q1383 q1385 qs76 q118 q1386) nmv_X3_isWord rfl (by omega) (by decide) rfl (fun h => sh_k1 h 52 rfl) rfl (Nat.le_of_ble_eq_true rfl) dX3_word_7 (fun v1 M2 => ?_)
  refine J_jn (P := fun J => ∀ (M3 : PM), T_m_word G  M3 23 [some (.ref 72), none, none] [] (J M3)) (fun M3 => ?_) (fun j1 hj1 => ?_)
  · refine J_aload_n (pc := 23) dX3_word_23 rfl ?_
    refine J_callV (pc := 24) (n := 0) (b := 72) (vs := []) (ci := 2) (fun l => C_m_lost l  M3) (lw_V q1387 q1389 qs77 q118 q1390) nmv_X3_lost rfl (by omega) (by decide) rfl (fun h => sh_k1 h 52 rfl) rfl (Nat.le_of_ble_eq_true rfl) dX3_word_24 (fun v2 M4 => ?_)
    exact J_iret (pc := 27) dX3_word_27
  refine J_if_eq (pc := 10) 23 dX3_word_10 rfl (fun h => if_pos h) (fun h => if_neg h) (fun _ => ?_) (fun _ => ?_)
  · exact J_sub (A := [some (.ref 72), none, none]) ⟨rfl, trivial⟩ (hj1 M2)
  · refine J_iload_n (pc := 13) dX3_word_13 rfl ?_
    refine J_iconst (pc := 14) 0 dX3_word_14 (by decide) ?_
    refine J_bipush (pc := 15) 8 dX3_word_15 (by decide) ?_
    refine J_callS (pc := 17) (n := 3) (vs := [.int p2, .int 0, .int 8]) (fun l => C_m_in l p2 0 8 M2) (lw_S q1289 q1290 q118 q1291) nmh_X3_in rfl (by omega) (by decide) rfl (Nat.le_of_ble_eq_true rfl) dX3_word_17 (fun v3 M5 => ?_)
    refine J_if_ne (pc := 20) 28 dX3_word_20 rfl (fun h => if_neg h) (fun h => if_pos h) (fun _ => ?_) (fun _ => ?_)
    · refine J_iload_n (pc := 28) dX3_word_28 rfl ?_
      refine J_if_ne (pc := 29) 41 dX3_word_29 rfl (fun h => if_neg h) (fun h => if_pos h) (fun _ => ?_) (fun _ => ?_)
      · refine J_iload_n (pc := 41) dX3_word_41 rfl ?_
        refine J_iconst (pc := 42) 1 dX3_word_42 (by decide) ?_
        refine J_icmp_ne (pc := 43) 54 dX3_word_43 rfl (fun h => if_neg h) (fun h => if_pos h) (fun _ => ?_) (fun _ => ?_)
        · refine J_iload_n (pc := 54) dX3_word_54 rfl ?_
          refine J_iconst (pc := 55) 4 dX3_word_55 (by decide) ?_
          refine J_icmp_ge (pc := 56) 74 dX3_word_56 rfl (fun h => if_pos h) (fun h => if_neg h) (fun _ => ?_) (fun _ => ?_)
          · refine J_aload_n (pc := 74) dX3_word_74 rfl ?_
            refine J_iload_n (pc := 75) dX3_word_75 rfl ?_
            refine J_iload_n (pc := 76) dX3_word_76 rfl ?_
            refine J_iconst (pc := 77) 4 dX3_word_77 (by decide) ?_
            refine J_isub (pc := 78) dX3_word_78 ?_
            refine J_callV (pc := 79) (n := 2) (b := 72) (vs := [.int p1, .int (p2 - 4)]) (ci := 2) (fun l => C_m_often l p1 (p2 - 4) M5) (lw_V q1395 q1397 qs79 q118 q1398) nmv_X3_often rfl (by omega) (by decide) rfl (fun h => sh_k1 h 52 rfl) rfl (Nat.le_of_ble_eq_true rfl) dX3_word_79 (fun v4 M6 => ?_)
            exact J_iret (pc := 82) dX3_word_82
          · refine J_aload_n (pc := 59) dX3_word_59 rfl ?_
            refine J_get (pc := 60) (c := 2) (.ref 76) rfl in_X3 5 (by decide) q1112 rfl (fun h => sh_k1 h 52 rfl) (fun h _ => fv_ref (Or.inr ⟨_, rfl⟩) (sh_r h 54 rfl)) dX3_word_60 ?_
            refine J_iconst (pc := 63) 2 dX3_word_63 (by decide) ?_
            refine J_iload_n (pc := 64) dX3_word_64 rfl ?_
            refine J_imul (pc := 65) dX3_word_65 ?_
            refine J_iload_n (pc := 66) dX3_word_66 rfl ?_
            refine J_iadd (pc := 67) dX3_word_67 ?_
            refine J_iconst (pc := 68) 2 dX3_word_68 (by decide) ?_
            refine J_isub (pc := 69) dX3_word_69 ?_
            refine J_ck (fun h1 => ?_)
            refine J_iald (pc := 70) (a := 76) (fun h => sh_a h 56 rfl h1) dX3_word_70 ?_
            refine J_goto (pc := 71) 82 dX3_word_71 rfl ?_
            exact J_iret (pc := 82) dX3_word_82
        · refine J_aload_n (pc := 46) dX3_word_46 rfl ?_
          refine J_iload_n (pc := 47) dX3_word_47 rfl ?_
          refine J_callV (pc := 48) (n := 1) (b := 72) (vs := [.int p1]) (ci := 2) (fun l => C_m_vowelsIn l p1 M5) (lw_V q1391 q1393 qs78 q118 q1394) nmv_X3_vowelsIn rfl (by omega) (by decide) rfl (fun h => sh_k1 h 52 rfl) rfl (Nat.le_of_ble_eq_true rfl) dX3_word_48 (fun v5 M7 => ?_)
          refine J_goto (pc := 51) 82 dX3_word_51 rfl ?_
          exact J_iret (pc := 82) dX3_word_82
      · refine J_aload_n (pc := 32) dX3_word_32 rfl ?_
        refine J_get (pc := 33) (c := 2) (.ref 75) rfl in_X3 4 (by decide) q1111 rfl (fun h => sh_k1 h 52 rfl) (fun h _ => fv_ref (Or.inr ⟨_, rfl⟩) (sh_r h 53 rfl)) dX3_word_33 ?_
        refine J_iload_n (pc := 36) dX3_word_36 rfl ?_
        refine J_ck (fun h2 => ?_)
        refine J_iald (pc := 37) (a := 75) (fun h => sh_a h 55 rfl h2) dX3_word_37 ?_
        refine J_goto (pc := 38) 82 dX3_word_38 rfl ?_
        exact J_iret (pc := 82) dX3_word_82
    · exact J_sub (A := [some (.ref 72), none, none]) ⟨rfl, trivial⟩ (hj1 M5)

theorem C_m_word (l : Launch) (p1 : Int32) (p2 : Int32) (M : PM) : Ctr l Sh yX3_word cX3_word 3 (some .int) 4 rvI [.ref 72, .int p1, .int p2] M (m_word p1 p2 M) := Ctr.of (by decide +kernel) (Nat.le_of_ble_eq_true rfl) (fun G => t_m_word G p1 p2 M)

abbrev T_m_field (G : JG) (M : PM) (pc : Nat) (L : List (Option Value)) (S : List Value) (o : Option (Int32 × PM)) : Prop := JJ G cX3_field yX3_field 3 1 (some .int) Sh (finR G Sh rvI) M pc L S o
def m_field (p1 : Int32) (p2 : Int32) (M : PM) : Option (Int32 × PM) :=
    ck ((4 * p1) + p2) 32 <|
    some ((M.i 77 (ix ((4 * p1) + p2))), M)

set_option maxHeartbeats 4000000 in
theorem t_m_field (G : JG) (p1 : Int32) (p2 : Int32) (M : PM) : T_m_field G  M 0 (ent [.ref 72, .int p1, .int p2] 3) [] (m_field p1 p2 M) := by
  unfold m_field
  refine J_aload_n (pc := 0) dX3_field_0 rfl ?_
  refine J_get (pc := 1) (c := 2) (.ref 77) rfl in_X3 8 (by decide) q1115 rfl (fun h => sh_k1 h 52 rfl) (fun h _ => fv_ref (Or.inr ⟨_, rfl⟩) (sh_r h 55 rfl)) dX3_field_1 ?_
  refine J_iconst (pc := 4) 4 dX3_field_4 (by decide) ?_
  refine J_iload_n (pc := 5) dX3_field_5 rfl ?_
  refine J_imul (pc := 6) dX3_field_6 ?_
  refine J_iload_n (pc := 7) dX3_field_7 rfl ?_
  refine J_iadd (pc := 8) dX3_field_8 ?_
  refine J_ck (fun h1 => ?_)
  refine J_iald (pc := 9) (a := 77) (fun h => sh_a h 57 rfl h1) dX3_field_9 ?_
  exact J_iret (pc := 10) dX3_field_10

theorem C_m_field (l : Launch) (p1 : Int32) (p2 : Int32) (M : PM) : Ctr l Sh yX3_field cX3_field 3 (some .int) 1 rvI [.ref 72, .int p1, .int p2] M (m_field p1 p2 M) := Ctr.of (by decide +kernel) (Nat.le_of_ble_eq_true rfl) (fun G => t_m_field G p1 p2 M)

abbrev T_m_has (G : JG) (M : PM) (pc : Nat) (L : List (Option Value)) (S : List Value) (o : Option (Int32 × PM)) : Prop := JJ G cX3_has yX3_has 2 1 (some .boolean) Sh (finR G Sh rvI) M pc L S o
def m_has (p0 : Int32) (p1 : Int32) (M : PM) : Option (Int32 × PM) :=
    if ((p0 >>> (p1 &&& 31)) &&& 1) = 1 then (some (1, M))
    else (some (0, M))

set_option maxHeartbeats 4000000 in
theorem t_m_has (G : JG) (p0 : Int32) (p1 : Int32) (M : PM) : T_m_has G  M 0 (ent [.int p0, .int p1] 2) [] (m_has p0 p1 M) := by
  unfold m_has
  refine J_iload_n (pc := 0) dX3_has_0 rfl ?_
  refine J_iload_n (pc := 1) dX3_has_1 rfl ?_
  refine J_ishr (pc := 2) dX3_has_2 ?_
  refine J_iconst (pc := 3) 1 dX3_has_3 (by decide) ?_
  refine J_iand (pc := 4) dX3_has_4 ?_
  refine J_iconst (pc := 5) 1 dX3_has_5 (by decide) ?_
  refine J_icmp_ne (pc := 6) 13 dX3_has_6 rfl (fun h => if_neg h) (fun h => if_pos h) (fun _ => ?_) (fun _ => ?_)
  · refine J_iconst (pc := 13) 0 dX3_has_13 (by decide) ?_
    exact J_zret (pc := 14) rfl dX3_has_14
  · refine J_iconst (pc := 9) 1 dX3_has_9 (by decide) ?_
    refine J_goto (pc := 10) 14 dX3_has_10 rfl ?_
    exact J_zret (pc := 14) rfl dX3_has_14

theorem C_m_has (l : Launch) (p0 : Int32) (p1 : Int32) (M : PM) : Ctr l Sh yX3_has cX3_has 2 (some .boolean) 1 rvI [.int p0, .int p1] M (m_has p0 p1 M) := Ctr.of (by decide +kernel) (Nat.le_of_ble_eq_true rfl) (fun G => t_m_has G p0 p1 M)

abbrev T_m_isOne (G : JG) (M : PM) (pc : Nat) (L : List (Option Value)) (S : List Value) (o : Option (Int32 × PM)) : Prop := JJ G cX3_isOne yX3_isOne 2 2 (some .boolean) Sh (finR G Sh rvI) M pc L S o
def m_isOne (p1 : Int32) (M : PM) : Option (Int32 × PM) :=
    bd (m_in p1 0 ((M.i 72 6) - 1) M) fun v1 M1 =>
    ckb (v1 = 0 ∨ v1 = 1) <|
    some (v1, M1)

set_option maxHeartbeats 4000000 in
theorem t_m_isOne (G : JG) (p1 : Int32) (M : PM) : T_m_isOne G  M 0 (ent [.ref 72, .int p1] 2) [] (m_isOne p1 M) := by
  unfold m_isOne
  refine J_iload_n (pc := 0) dX3_isOne_0 rfl ?_
  refine J_iconst (pc := 1) 0 dX3_isOne_1 (by decide) ?_
  refine J_aload_n (pc := 2) dX3_isOne_2 rfl ?_
  refine J_get (pc := 3) (c := 2) (.int (M.i 72 6)) rfl in_X3 6 (by decide) q1113 rfl (fun h => sh_k1 h 52 rfl) (fun _ _ => rfl) dX3_isOne_3 ?_
  refine J_iconst (pc := 6) 1 dX3_isOne_6 (by decide) ?_
  refine J_isub (pc := 7) dX3_isOne_7 ?_
  refine J_callS (pc := 8) (n := 3) (vs := [.int p1, .int 0, .int ((M.i 72 6) - 1)]) (fun l => C_m_in l p1 0 ((M.i 72 6) - 1) M) (lw_S q1289 q1290 q118 q1291) nmh_X3_in rfl (by omega) (by decide) rfl (Nat.le_of_ble_eq_true rfl) dX3_isOne_8 (fun v1 M1 => ?_)
  refine J_ckb (fun h1 => ?_)
  exact J_zret (pc := 11) (nz h1) dX3_isOne_11

theorem C_m_isOne (l : Launch) (p1 : Int32) (M : PM) : Ctr l Sh yX3_isOne cX3_isOne 2 (some .boolean) 2 rvI [.ref 72, .int p1] M (m_isOne p1 M) := Ctr.of (by decide +kernel) (Nat.le_of_ble_eq_true rfl) (fun G => t_m_isOne G p1 M)

abbrev T_m_openOf (G : JG) (M : PM) (pc : Nat) (L : List (Option Value)) (S : List Value) (o : Option (Int32 × PM)) : Prop := JJ G cX3_openOf yX3_openOf 4 2 (some .int) Sh (finR G Sh rvI) M pc L S o
def m_openOf_L4 (c1 : Int32) : Nat → Int32 → Int32 → PM → Option (Int32 × PM)
  | 0, _, _, _ => none
  | n + 1, v1, v2, M1 =>
    if (M1.i 72 7) ≤ v2 then (some (v1, M1))
    else (bd (m_field v2 0 M1) fun v3 M2 =>
    jn (fun (v4 : Int32) (M3 : PM) =>
    lt (v1 ||| v4) fun v5 =>
    lt (v2 + 1) fun v6 =>
    m_openOf_L4 c1 n v5 v6 M3) fun j1 =>
    if v3 = c1 then (ck 13 44 <|
    bd (m_has (M2.i 73 (ix 13)) v2 M2) fun v7 M4 =>
    if v7 = 0 then (j1 (1 <<< (v2 &&& 31)) M4)
    else (j1 0 M4))
    else (j1 0 M2))

set_option maxHeartbeats 4000000 in
theorem t_m_openOf_L4 (G : JG) (c1 : Int32) : ∀ (n : Nat) (v1 : Int32) (v2 : Int32) (M1 : PM), T_m_openOf G  M1 4 [some (.ref 72), some (.int c1), some (.int v1), some (.int v2)] [] (m_openOf_L4 c1 n v1 v2 M1) := by
  intro n
  induction n with
  | zero =>
    intro v1 v2 M1
    exact J_none
  | succ n ih =>
    intro v1 v2 M1
    rw [m_openOf_L4]
    refine J_iload_n (pc := 4) dX3_openOf_4 rfl ?_
    refine J_aload_n (pc := 5) dX3_openOf_5 rfl ?_
    refine J_get (pc := 6) (c := 2) (.int (M1.i 72 7)) rfl in_X3 7 (by decide) q1114 rfl (fun h => sh_k1 h 52 rfl) (fun _ _ => rfl) dX3_openOf_6 ?_
    refine J_icmp_ge (pc := 9) 52 dX3_openOf_9 rfl (fun h => if_pos h) (fun h => if_neg h) (fun _ => ?_) (fun _ => ?_)
    · refine J_iload_n (pc := 52) dX3_openOf_52 rfl ?_
      exact J_iret (pc := 53) dX3_openOf_53
    · refine J_iload_n (pc := 12) dX3_openOf_12 rfl ?_
      refine J_aload_n (pc := 13) dX3_openOf_13 rfl ?_
      refine J_iload_n (pc := 14) dX3_openOf_14 rfl ?_
      refine J_iconst (pc := 15) 0 dX3_openOf_15 (by decide) ?_
      refine J_callV (pc := 16) (n := 2) (b := 72) (vs := [.int v2, .int 0]) (ci := 2) (fun l => C_m_field l v2 0 M1) (lw_V q1418 q1420 qs83 q118 q1421) nmv_X3_field rfl (by omega) (by decide) rfl (fun h => sh_k1 h 52 rfl) rfl (Nat.le_of_ble_eq_true rfl) dX3_openOf_16 (fun v3 M2 => ?_)
      refine J_iload_n (pc := 19) dX3_openOf_19 rfl ?_
      refine J_jn (P := fun J => ∀ (v4 : Int32) (M3 : PM), T_m_openOf G  M3 44 [some (.ref 72), some (.int c1), none, some (.int v2)] [.int v4, .int v1] (J v4 M3)) (fun v4 M3 => ?_) (fun j1 hj1 => ?_)
      · refine J_ior (pc := 44) dX3_openOf_44 ?_
        refine J_lt (β := Int32) (v := (v1 ||| v4)) (L := fun _ => _) (S := fun v5 => [.int v5]) (fun v5 => ?_)
        refine J_istore_n (pc := 45) dX3_openOf_45 (by decide) ?_
        refine J_iincL (pc := 46) (n := 1) (by decide) dX3_openOf_46 rfl (by decide) (fun v6 => ?_)
        refine J_goto (pc := 49) 4 dX3_openOf_49 rfl ?_
        exact J_sub (A := [some (.ref 72), some (.int c1), some (.int v5), some (.int v6)]) ⟨rfl, ⟨rfl, ⟨rfl, ⟨rfl, trivial⟩⟩⟩⟩ (ih v5 v6 M3)
      refine J_icmp_ne (pc := 20) 43 dX3_openOf_20 rfl (fun h => if_neg h) (fun h => if_pos h) (fun _ => ?_) (fun _ => ?_)
      · refine J_iconst (pc := 43) 0 dX3_openOf_43 (by decide) ?_
        exact J_sub (A := [some (.ref 72), some (.int c1), none, some (.int v2)]) ⟨rfl, ⟨rfl, ⟨rfl, trivial⟩⟩⟩ (hj1 0 M2)
      · refine J_aload_n (pc := 23) dX3_openOf_23 rfl ?_
        refine J_get (pc := 24) (c := 2) (.ref 73) rfl in_X3 0 (by decide) q1107 rfl (fun h => sh_k1 h 52 rfl) (fun h _ => fv_ref (Or.inr ⟨_, rfl⟩) (sh_r h 51 rfl)) dX3_openOf_24 ?_
        refine J_bipush (pc := 27) 13 dX3_openOf_27 (by decide) ?_
        refine J_ck (fun h1 => ?_)
        refine J_iald (pc := 29) (a := 73) (fun h => sh_a h 53 rfl h1) dX3_openOf_29 ?_
        refine J_iload_n (pc := 30) dX3_openOf_30 rfl ?_
        refine J_callS (pc := 31) (n := 2) (vs := [.int (M2.i 73 (ix 13)), .int v2]) (fun l => C_m_has l (M2.i 73 (ix 13)) v2 M2) (lw_S q1422 q1423 q118 q1424) nmh_X3_has rfl (by omega) (by decide) rfl (Nat.le_of_ble_eq_true rfl) dX3_openOf_31 (fun v7 M4 => ?_)
        refine J_if_ne (pc := 34) 43 dX3_openOf_34 rfl (fun h => if_neg h) (fun h => if_pos h) (fun _ => ?_) (fun _ => ?_)
        · refine J_iconst (pc := 43) 0 dX3_openOf_43 (by decide) ?_
          exact J_sub (A := [some (.ref 72), some (.int c1), none, some (.int v2)]) ⟨rfl, ⟨rfl, ⟨rfl, trivial⟩⟩⟩ (hj1 0 M4)
        · refine J_iconst (pc := 37) 1 dX3_openOf_37 (by decide) ?_
          refine J_iload_n (pc := 38) dX3_openOf_38 rfl ?_
          refine J_ishl (pc := 39) dX3_openOf_39 ?_
          refine J_goto (pc := 40) 44 dX3_openOf_40 rfl ?_
          exact J_sub (A := [some (.ref 72), some (.int c1), none, some (.int v2)]) ⟨rfl, ⟨rfl, ⟨rfl, trivial⟩⟩⟩ (hj1 (1 <<< (v2 &&& 31)) M4)

def m_openOf (p1 : Int32) (M : PM) : Option (Int32 × PM) :=
    m_openOf_L4 p1 FU 0 0 M

set_option maxHeartbeats 4000000 in
theorem t_m_openOf (G : JG) (p1 : Int32) (M : PM) : T_m_openOf G  M 0 (ent [.ref 72, .int p1] 4) [] (m_openOf p1 M) := by
  unfold m_openOf
  refine J_iconst (pc := 0) 0 dX3_openOf_0 (by decide) ?_
  refine J_istore_n (pc := 1) dX3_openOf_1 (by decide) ?_
  refine J_iconst (pc := 2) 0 dX3_openOf_2 (by decide) ?_
  refine J_istore_n (pc := 3) dX3_openOf_3 (by decide) ?_
  refine J_sub (A := [some (.ref 72), some (.int p1), some (.int 0), some (.int 0)]) ⟨rfl, ⟨rfl, ⟨rfl, ⟨rfl, trivial⟩⟩⟩⟩ (t_m_openOf_L4 G p1  FU 0 0 M)

theorem C_m_openOf (l : Launch) (p1 : Int32) (M : PM) : Ctr l Sh yX3_openOf cX3_openOf 4 (some .int) 2 rvI [.ref 72, .int p1] M (m_openOf p1 M) := Ctr.of (by decide +kernel) (Nat.le_of_ble_eq_true rfl) (fun G => t_m_openOf G p1 M)

