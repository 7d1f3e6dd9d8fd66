set_option maxRecDepth 100000
abbrev T_x_comesIn (G : JG) (M : PM) (pc : Nat) (L : List (Option Value)) (S : List Value) (o : Option (Int32 × PM)) : Prop := JJ G cX1_comesIn yX1_comesIn 7 144 (some .int) Sh (finR G Sh rvI) M pc L S o
def x_comesIn_L10 (c1 : Int32) (c2 : Int32) : Nat → Int32 → Int32 → PM → Option (Int32 × PM)
  | 0, _, _, _ => none
  | n + 1, v1, v2, M2 =>
    if (M2.i 20 13) ≤ v2 then (some (v1, M2))
    else (ck v2 8 <|
    jn (fun (v3 : Int32) (M3 : PM) =>
    jn (fun (v4 : Int32) (M4 : PM) =>
    ck v2 8 <|
    jn (fun (v5 : Int32) (M5 : PM) =>
    lt (v2 + 1) fun v6 =>
    x_comesIn_L10 c1 c2 n v5 v6 M5) fun j3 =>
    if v4 ≤ (M4.i 38 (ix v2)) then (lt (M4.si 20 57 ((M4.i 20 57) + 1)) fun M6 =>
    lt (v1 + v4) fun v7 =>
    j3 v7 M6)
    else (j3 v1 M4)) fun j2 =>
    if 0 ≤ v3 then (bd (x_tollNow v3 c1 M3) fun v8 M7 =>
    bd (x_vowelsOf v3 M7) fun v9 M8 =>
    j2 (v8 + (c2 * v9)) M8)
    else (j2 1000000000 M3)) fun j1 =>
    if (M2.i 37 (ix v2)) = c1 then (bd (x_has (M2.i 21 5) v2 M2) fun v10 M9 =>
    if v10 = 0 then (ck v2 8 <|
    bd (x_cheapestFor (M9.i 36 (ix v2)) c1 c2 M9) fun v11 M10 =>
    j1 v11 M10)
    else (j1 (-1) M9))
    else (j1 (-1) M2))

set_option maxHeartbeats 4000000 in
theorem t_x_comesIn_L10 (G : JG) (c1 : Int32) (c2 : Int32) : ∀ (n : Nat) (v1 : Int32) (v2 : Int32) (M2 : PM), T_x_comesIn G  M2 10 [some (.ref 20), some (.int c1), some (.int c2), some (.int v1), some (.int v2), none, none] [] (x_comesIn_L10 c1 c2 n v1 v2 M2) := by
  intro n
  induction n with
  | zero =>
    intro v1 v2 M2
    exact J_none
  | succ n ih =>
    intro v1 v2 M2
    rw [x_comesIn_L10]
    refine J_iload (pc := 10) dX1_comesIn_10 rfl ?_
    refine J_aload_n (pc := 12) dX1_comesIn_12 rfl ?_
    refine J_get (pc := 13) (c := 0) (.int (M2.i 20 13)) rfl in_X1 13 (by decide) q190 rfl (fun h => sh_k1 h 0 rfl) (fun _ _ => rfl) dX1_comesIn_13 ?_
    refine J_icmp_ge (pc := 16) 129 dX1_comesIn_16 rfl (fun h => if_pos h) (fun h => if_neg h) (fun _ => ?_) (fun _ => ?_)
    · refine J_iload_n (pc := 129) dX1_comesIn_129 rfl ?_
      exact J_iret (pc := 130) dX1_comesIn_130
    · refine J_aload_n (pc := 19) dX1_comesIn_19 rfl ?_
      refine J_get (pc := 20) (c := 0) (.ref 37) rfl in_X1 8 (by decide) q185 rfl (fun h => sh_k1 h 0 rfl) (fun h _ => fv_ref (Or.inr ⟨_, rfl⟩) (sh_r h 16 rfl)) dX1_comesIn_20 ?_
      refine J_iload (pc := 23) dX1_comesIn_23 rfl ?_
      refine J_ck (fun h1 => ?_)
      refine J_iald (pc := 25) (a := 37) (fun h => sh_a h 17 rfl h1) dX1_comesIn_25 ?_
      refine J_iload_n (pc := 26) dX1_comesIn_26 rfl ?_
      refine J_jn (P := fun J => ∀ (v3 : Int32) (M3 : PM), T_x_comesIn G  M3 62 [some (.ref 20), some (.int c1), some (.int c2), some (.int v1), some (.int v2), none, none] [.int v3] (J v3 M3)) (fun v3 M3 => ?_) (fun j1 hj1 => ?_)
      · refine J_istore (pc := 62) dX1_comesIn_62 (by decide) ?_
        refine J_iload (pc := 64) dX1_comesIn_64 rfl ?_
        refine J_jn (P := fun J => ∀ (v4 : Int32) (M4 : PM), T_x_comesIn G  M4 91 [some (.ref 20), some (.int c1), some (.int c2), some (.int v1), some (.int v2), none, none] [.int v4] (J v4 M4)) (fun v4 M4 => ?_) (fun j2 hj2 => ?_)
        · refine J_istore (pc := 91) dX1_comesIn_91 (by decide) ?_
          refine J_iload (pc := 93) dX1_comesIn_93 rfl ?_
          refine J_aload_n (pc := 95) dX1_comesIn_95 rfl ?_
          refine J_get (pc := 96) (c := 0) (.ref 38) rfl in_X1 9 (by decide) q186 rfl (fun h => sh_k1 h 0 rfl) (fun h _ => fv_ref (Or.inr ⟨_, rfl⟩) (sh_r h 17 rfl)) dX1_comesIn_96 ?_
          refine J_iload (pc := 99) dX1_comesIn_99 rfl ?_
          refine J_ck (fun h2 => ?_)
          refine J_iald (pc := 101) (a := 38) (fun h => sh_a h 18 rfl h2) dX1_comesIn_101 ?_
          refine J_jn (P := fun J => ∀ (v5 : Int32) (M5 : PM), T_x_comesIn G  M5 123 [some (.ref 20), some (.int c1), some (.int c2), some (.int v5), some (.int v2), none, none] [] (J v5 M5)) (fun v5 M5 => ?_) (fun j3 hj3 => ?_)
          · refine J_iincL (pc := 123) (n := 1) (by decide) dX1_comesIn_123 rfl (by decide) (fun v6 => ?_)
            refine J_goto (pc := 126) 10 dX1_comesIn_126 rfl ?_
            exact J_sub (A := [some (.ref 20), some (.int c1), some (.int c2), some (.int v5), some (.int v6), none, none]) ⟨rfl, ⟨rfl, ⟨rfl, ⟨rfl, ⟨rfl, trivial⟩⟩⟩⟩⟩ (ih v5 v6 M5)
          refine J_icmp_le (pc := 102) 108 dX1_comesIn_102 rfl (fun h => if_pos h) (fun h => if_neg h) (fun _ => ?_) (fun _ => ?_)
          · refine J_aload_n (pc := 108) dX1_comesIn_108 rfl ?_
            refine J_dup (pc := 109) dX1_comesIn_109 rfl ?_
            refine J_get (pc := 110) (c := 0) (.int (M4.i 20 57)) rfl in_X1 57 (by decide) q241 rfl (fun h => sh_k1 h 0 rfl) (fun _ _ => rfl) dX1_comesIn_110 ?_
            refine J_iconst (pc := 113) 1 dX1_comesIn_113 (by decide) ?_
            refine J_iadd (pc := 114) dX1_comesIn_114 ?_
            refine J_put (pc := 115) (a := 20) (v := .int ((M4.i 20 57) + 1)) (M' := M4.si 20 57 ((M4.i 20 57) + 1)) (c := 0) rfl in_X1 tyX1_ok fnX1 57 (by decide) q241 rfl (Or.inl rfl) (fun h => sh_k1 h 0 rfl) (fun _ => rfl) (fun _ => rfl) ⟨⟨rfl, rfl⟩, rfl⟩ (fun _ hb => up2_same hb) (fun _ _ => rfl) (fun _ _ => rfl) (put_i (fun _ _ _ => rfl)) (fun h => Sh_si h) dX1_comesIn_115 ?_
            refine J_ltM (fun M6 => ?_)
            refine J_iload_n (pc := 118) dX1_comesIn_118 rfl ?_
            refine J_iload (pc := 119) dX1_comesIn_119 rfl ?_
            refine J_iadd (pc := 121) dX1_comesIn_121 ?_
            refine J_lt (β := Int32) (v := (v1 + v4)) (L := fun _ => _) (S := fun v7 => [.int v7]) (fun v7 => ?_)
            refine J_istore_n (pc := 122) dX1_comesIn_122 (by decide) ?_
            exact J_sub (A := [some (.ref 20), some (.int c1), some (.int c2), some (.int v7), some (.int v2), none, none]) ⟨rfl, ⟨rfl, ⟨rfl, ⟨rfl, ⟨rfl, trivial⟩⟩⟩⟩⟩ (hj3 v7 M6)
          · refine J_goto (pc := 105) 123 dX1_comesIn_105 rfl ?_
            exact J_sub (A := [some (.ref 20), some (.int c1), some (.int c2), some (.int v1), some (.int v2), none, none]) ⟨rfl, ⟨rfl, ⟨rfl, ⟨rfl, ⟨rfl, trivial⟩⟩⟩⟩⟩ (hj3 v1 M4)
        refine J_if_ge (pc := 66) 75 dX1_comesIn_66 rfl (fun h => if_pos h) (fun h => if_neg h) (fun _ => ?_) (fun _ => ?_)
        · refine J_aload_n (pc := 75) dX1_comesIn_75 rfl ?_
          refine J_iload (pc := 76) dX1_comesIn_76 rfl ?_
          refine J_iload_n (pc := 78) dX1_comesIn_78 rfl ?_
          refine J_callV (pc := 79) (n := 2) (b := 20) (vs := [.int v3, .int c1]) (ci := 0) (fun l => C_x_tollNow l v3 c1 M3) (lw_V q800 q802 qs34 q116 q803) nmv_X1_tollNow rfl (by omega) (by decide) rfl (fun h => sh_k1 h 0 rfl) rfl (Nat.le_of_ble_eq_true rfl) dX1_comesIn_79 (fun v8 M7 => ?_)
          refine J_iload_n (pc := 82) dX1_comesIn_82 rfl ?_
          refine J_aload_n (pc := 83) dX1_comesIn_83 rfl ?_
          refine J_iload (pc := 84) dX1_comesIn_84 rfl ?_
          refine J_callV (pc := 86) (n := 1) (b := 20) (vs := [.int v3]) (ci := 0) (fun l => C_x_vowelsOf l v3 M7) (lw_V q804 q806 qs35 q116 q807) nmv_X1_vowelsOf rfl (by omega) (by decide) rfl (fun h => sh_k1 h 0 rfl) rfl (Nat.le_of_ble_eq_true rfl) dX1_comesIn_86 (fun v9 M8 => ?_)
          refine J_imul (pc := 89) dX1_comesIn_89 ?_
          refine J_iadd (pc := 90) dX1_comesIn_90 ?_
          exact J_sub (A := [some (.ref 20), some (.int c1), some (.int c2), some (.int v1), some (.int v2), none, none]) ⟨rfl, ⟨rfl, ⟨rfl, ⟨rfl, ⟨rfl, trivial⟩⟩⟩⟩⟩ (hj2 (v8 + (c2 * v9)) M8)
        · refine J_ldcw (pc := 69) 1000000000 q799 dX1_comesIn_69 ?_
          refine J_goto (pc := 72) 91 dX1_comesIn_72 rfl ?_
          exact J_sub (A := [some (.ref 20), some (.int c1), some (.int c2), some (.int v1), some (.int v2), none, none]) ⟨rfl, ⟨rfl, ⟨rfl, ⟨rfl, ⟨rfl, trivial⟩⟩⟩⟩⟩ (hj2 1000000000 M3)
      refine J_icmp_ne (pc := 27) 61 dX1_comesIn_27 rfl (fun h => if_neg h) (fun h => if_pos h) (fun _ => ?_) (fun _ => ?_)
      · refine J_iconst (pc := 61) (-1) dX1_comesIn_61 (by decide) ?_
        exact J_sub (A := [some (.ref 20), some (.int c1), some (.int c2), some (.int v1), some (.int v2), none, none]) ⟨rfl, ⟨rfl, ⟨rfl, ⟨rfl, ⟨rfl, trivial⟩⟩⟩⟩⟩ (hj1 (-1) M2)
      · refine J_aload_n (pc := 30) dX1_comesIn_30 rfl ?_
        refine J_get (pc := 31) (c := 0) (.ref 21) rfl in_X1 0 (by decide) q177 rfl (fun h => sh_k1 h 0 rfl) (fun h _ => fv_ref (Or.inl ⟨_, rfl⟩) (sh_r h 4 rfl)) dX1_comesIn_31 ?_
        refine J_getN (host := "TollOnVowels") (pc := 34) (c := 1) (.int (M2.i 21 5)) rfl in_X2 5 (by decide) (by decide +kernel) rfl (fun h => sh_k1 h 1 rfl) (fun _ _ => rfl) dX1_comesIn_34 ?_
        refine J_iload (pc := 37) dX1_comesIn_37 rfl ?_
        refine J_callS (pc := 39) (n := 2) (vs := [.int (M2.i 21 5), .int v2]) (fun l => C_x_has l (M2.i 21 5) v2 M2) (lw_S q757 q758 q116 q759) nmh_X1_has rfl (by omega) (by decide) rfl (Nat.le_of_ble_eq_true rfl) dX1_comesIn_39 (fun v10 M9 => ?_)
        refine J_if_ne (pc := 42) 61 dX1_comesIn_42 rfl (fun h => if_neg h) (fun h => if_pos h) (fun _ => ?_) (fun _ => ?_)
        · refine J_iconst (pc := 61) (-1) dX1_comesIn_61 (by decide) ?_
          exact J_sub (A := [some (.ref 20), some (.int c1), some (.int c2), some (.int v1), some (.int v2), none, none]) ⟨rfl, ⟨rfl, ⟨rfl, ⟨rfl, ⟨rfl, trivial⟩⟩⟩⟩⟩ (hj1 (-1) M9)
        · refine J_aload_n (pc := 45) dX1_comesIn_45 rfl ?_
          refine J_aload_n (pc := 46) dX1_comesIn_46 rfl ?_
          refine J_get (pc := 47) (c := 0) (.ref 36) rfl in_X1 7 (by decide) q184 rfl (fun h => sh_k1 h 0 rfl) (fun h _ => fv_ref (Or.inr ⟨_, rfl⟩) (sh_r h 15 rfl)) dX1_comesIn_47 ?_
          refine J_iload (pc := 50) dX1_comesIn_50 rfl ?_
          refine J_ck (fun h3 => ?_)
          refine J_iald (pc := 52) (a := 36) (fun h => sh_a h 16 rfl h3) dX1_comesIn_52 ?_
          refine J_iload_n (pc := 53) dX1_comesIn_53 rfl ?_
          refine J_iload_n (pc := 54) dX1_comesIn_54 rfl ?_
          refine J_callV (pc := 55) (n := 3) (b := 20) (vs := [.int (M9.i 36 (ix v2)), .int c1, .int c2]) (ci := 0) (fun l => C_x_cheapestFor l (M9.i 36 (ix v2)) c1 c2 M9) (lw_V q795 q797 qs33 q116 q798) nmv_X1_cheapestFor rfl (by omega) (by decide) rfl (fun h => sh_k1 h 0 rfl) rfl (Nat.le_of_ble_eq_true rfl) dX1_comesIn_55 (fun v11 M10 => ?_)
          refine J_goto (pc := 58) 62 dX1_comesIn_58 rfl ?_
          exact J_sub (A := [some (.ref 20), some (.int c1), some (.int c2), some (.int v1), some (.int v2), none, none]) ⟨rfl, ⟨rfl, ⟨rfl, ⟨rfl, ⟨rfl, trivial⟩⟩⟩⟩⟩ (hj1 v11 M10)

def x_comesIn (p1 : Int32) (p2 : Int32) (M : PM) : Option (Int32 × PM) :=
    lt (M.si 20 57 0) fun M1 =>
    x_comesIn_L10 p1 p2 FU 0 0 M1

set_option maxHeartbeats 4000000 in
theorem t_x_comesIn (G : JG) (p1 : Int32) (p2 : Int32) (M : PM) : T_x_comesIn G  M 0 (ent [.ref 20, .int p1, .int p2] 7) [] (x_comesIn p1 p2 M) := by
  unfold x_comesIn
  refine J_aload_n (pc := 0) dX1_comesIn_0 rfl ?_
  refine J_iconst (pc := 1) 0 dX1_comesIn_1 (by decide) ?_
  refine J_put (pc := 2) (a := 20) (v := .int 0) (M' := M.si 20 57 0) (c := 0) rfl in_X1 tyX1_ok fnX1 57 (by decide) q241 rfl (Or.inl rfl) (fun h => sh_k1 h 0 rfl) (fun _ => rfl) (fun _ => rfl) ⟨⟨rfl, rfl⟩, rfl⟩ (fun _ hb => up2_same hb) (fun _ _ => rfl) (fun _ _ => rfl) (put_i (fun _ _ _ => rfl)) (fun h => Sh_si h) dX1_comesIn_2 ?_
  refine J_ltM (fun M1 => ?_)
  refine J_iconst (pc := 5) 0 dX1_comesIn_5 (by decide) ?_
  refine J_istore_n (pc := 6) dX1_comesIn_6 (by decide) ?_
  refine J_iconst (pc := 7) 0 dX1_comesIn_7 (by decide) ?_
  refine J_istore (pc := 8) dX1_comesIn_8 (by decide) ?_
  refine J_sub (A := [some (.ref 20), some (.int p1), some (.int p2), some (.int 0), some (.int 0), none, none]) ⟨rfl, ⟨rfl, ⟨rfl, ⟨rfl, ⟨rfl, trivial⟩⟩⟩⟩⟩ (t_x_comesIn_L10 G p1 p2  FU 0 0 M1)

theorem C_x_comesIn (l : Launch) (p1 : Int32) (p2 : Int32) (M : PM) : Ctr l Sh yX1_comesIn cX1_comesIn 7 (some .int) 144 rvI [.ref 20, .int p1, .int p2] M (x_comesIn p1 p2 M) := Ctr.of (by decide +kernel) (Nat.le_of_ble_eq_true rfl) (fun G => t_x_comesIn G p1 p2 M)

abbrev T_x_takes (G : JG) (M : PM) (pc : Nat) (L : List (Option Value)) (S : List Value) (o : Option (Int32 × PM)) : Prop := JJ G cX1_takes yX1_takes 4 145 (some .int) Sh (finR G Sh rvI) M pc L S o
def x_takes (p1 : Int32) (p2 : Int32) (M : PM) : Option (Int32 × PM) :=
    bd (x_isStation p1 M) fun v1 M1 =>
    if v1 = 0 then (some ((-1), M1))
    else (bd (x_in (Int32.toInt64 p2) 0 99 M1) fun v2 M2 =>
    if v2 = 0 then (some ((-1), M2))
    else (bd (x_comesIn p1 p2 M2) fun v3 M3 =>
    lt (M3.si 20 67 0) fun M4 =>
    bd (x_tells (Int32.toInt64 (M4.i 20 57)) M4) fun _ M5 =>
    some (v3, M5)))

set_option maxHeartbeats 4000000 in
theorem t_x_takes (G : JG) (p1 : Int32) (p2 : Int32) (M : PM) : T_x_takes G  M 0 (ent [.ref 20, .int p1, .int p2] 4) [] (x_takes p1 p2 M) := by
  unfold x_takes
  refine J_aload_n (pc := 0) dX1_takes_0 rfl ?_
  refine J_iload_n (pc := 1) dX1_takes_1 rfl ?_
  refine J_callV (pc := 2) (n := 1) (b := 20) (vs := [.int p1]) (ci := 0) (fun l => C_x_isStation l p1 M) (lw_V q678 q680 qs17 q116 q681) nmv_X1_isStation rfl (by omega) (by decide) rfl (fun h => sh_k1 h 0 rfl) rfl (Nat.le_of_ble_eq_true rfl) dX1_takes_2 (fun v1 M1 => ?_)
  refine J_if_eq (pc := 5) 20 dX1_takes_5 rfl (fun h => if_pos h) (fun h => if_neg h) (fun _ => ?_) (fun _ => ?_)
  · refine J_iconst (pc := 20) (-1) dX1_takes_20 (by decide) ?_
    exact J_iret (pc := 21) dX1_takes_21
  · refine J_iload_n (pc := 8) dX1_takes_8 rfl ?_
    refine J_i2l (pc := 9) dX1_takes_9 ?_
    refine J_lconst (pc := 10) 0 dX1_takes_10 (by decide) ?_
    refine J_ldc2 (pc := 11) 99 q736 dX1_takes_11 ?_
    refine J_callS (pc := 14) (n := 3) (vs := [.long (Int32.toInt64 p2), .long 0, .long 99]) (fun l => C_x_in l (Int32.toInt64 p2) 0 99 M1) (lw_S q398 q399 q116 q400) nmh_X1_in rfl (by omega) (by decide) rfl (Nat.le_of_ble_eq_true rfl) dX1_takes_14 (fun v2 M2 => ?_)
    refine J_if_ne (pc := 17) 22 dX1_takes_17 rfl (fun h => if_neg h) (fun h => if_pos h) (fun _ => ?_) (fun _ => ?_)
    · refine J_aload_n (pc := 22) dX1_takes_22 rfl ?_
      refine J_iload_n (pc := 23) dX1_takes_23 rfl ?_
      refine J_iload_n (pc := 24) dX1_takes_24 rfl ?_
      refine J_callV (pc := 25) (n := 2) (b := 20) (vs := [.int p1, .int p2]) (ci := 0) (fun l => C_x_comesIn l p1 p2 M2) (lw_V q928 q930 qs50 q116 q931) nmv_X1_comesIn rfl (by omega) (by decide) rfl (fun h => sh_k1 h 0 rfl) rfl (Nat.le_of_ble_eq_true rfl) dX1_takes_25 (fun v3 M3 => ?_)
      refine J_istore_n (pc := 28) dX1_takes_28 (by decide) ?_
      refine J_aload_n (pc := 29) dX1_takes_29 rfl ?_
      refine J_iconst (pc := 30) 0 dX1_takes_30 (by decide) ?_
      refine J_put (pc := 31) (a := 20) (v := .int 0) (M' := M3.si 20 67 0) (c := 0) rfl in_X1 tyX1_ok fnX1 67 (by decide) q251 rfl (Or.inl rfl) (fun h => sh_k1 h 0 rfl) (fun _ => rfl) (fun _ => rfl) ⟨⟨rfl, rfl⟩, rfl⟩ (fun _ hb => up2_same hb) (fun _ _ => rfl) (fun _ _ => rfl) (put_i (fun _ _ _ => rfl)) (fun h => Sh_si h) dX1_takes_31 ?_
      refine J_ltM (fun M4 => ?_)
      refine J_aload_n (pc := 34) dX1_takes_34 rfl ?_
      refine J_aload_n (pc := 35) dX1_takes_35 rfl ?_
      refine J_get (pc := 36) (c := 0) (.int (M4.i 20 57)) rfl in_X1 57 (by decide) q241 rfl (fun h => sh_k1 h 0 rfl) (fun _ _ => rfl) dX1_takes_36 ?_
      refine J_i2l (pc := 39) dX1_takes_39 ?_
      refine J_callV (pc := 40) (n := 1) (b := 20) (vs := [.long (Int32.toInt64 (M4.i 20 57))]) (ci := 0) (fun l => C_x_tells l (Int32.toInt64 (M4.i 20 57)) M4) (lw_V q708 q710 qs20 q116 q711) nmv_X1_tells rfl (by omega) (by decide) rfl (fun h => sh_k1 h 0 rfl) rfl (Nat.le_of_ble_eq_true rfl) dX1_takes_40 (fun _ M5 => ?_)
      refine J_iload_n (pc := 43) dX1_takes_43 rfl ?_
      exact J_iret (pc := 44) dX1_takes_44
    · refine J_iconst (pc := 20) (-1) dX1_takes_20 (by decide) ?_
      exact J_iret (pc := 21) dX1_takes_21

theorem C_x_takes (l : Launch) (p1 : Int32) (p2 : Int32) (M : PM) : Ctr l Sh yX1_takes cX1_takes 4 (some .int) 145 rvI [.ref 20, .int p1, .int p2] M (x_takes p1 p2 M) := Ctr.of (by decide +kernel) (Nat.le_of_ble_eq_true rfl) (fun G => t_x_takes G p1 p2 M)

abbrev T_x_greed (G : JG) (M : PM) (pc : Nat) (L : List (Option Value)) (S : List Value) (o : Option (Int32 × PM)) : Prop := JJ G cX1_greed yX1_greed 4 145 (some .int) Sh (finR G Sh rvI) M pc L S o
def x_greed_L14 (c1 : Int32) (k47 : Int32 → PM → Option (Int32 × PM)) : Nat → Int32 → Int32 → PM → Option (Int32 × PM)
  | 0, _, _, _ => none
  | n + 1, v2, v3, M2 =>
    if 99 < v3 then (k47 v2 M2)
    else (bd (x_comesIn c1 v3 M2) fun v4 M3 =>
    bd (x_comesIn c1 v2 M3) fun v5 M4 =>
    lt (if v4 ≤ v5 then v2 else v3 : Int32) fun v6 =>
    lt (v3 + 1) fun v7 =>
    x_greed_L14 c1 k47 n v6 v7 M4)

set_option maxHeartbeats 4000000 in
theorem t_x_greed_L14 (G : JG) (c1 : Int32) (k47 : Int32 → PM → Option (Int32 × PM)) (hk47 : ∀ z2 Me, T_x_greed G  Me 47 [some (.ref 20), some (.int c1), some (.int z2), none] [] (k47 z2 Me)) : ∀ (n : Nat) (v2 : Int32) (v3 : Int32) (M2 : PM), T_x_greed G  M2 14 [some (.ref 20), some (.int c1), some (.int v2), some (.int v3)] [] (x_greed_L14 c1 k47 n v2 v3 M2) := by
  intro n
  induction n with
  | zero =>
    intro v2 v3 M2
    exact J_none
  | succ n ih =>
    intro v2 v3 M2
    rw [x_greed_L14]
    refine J_iload_n (pc := 14) dX1_greed_14 rfl ?_
    refine J_bipush (pc := 15) 99 dX1_greed_15 (by decide) ?_
    refine J_icmp_gt (pc := 17) 47 dX1_greed_17 rfl (fun h => if_pos h) (fun h => if_neg h) (fun _ => ?_) (fun _ => ?_)
    · exact J_sub (A := [some (.ref 20), some (.int c1), some (.int v2), none]) ⟨rfl, ⟨rfl, ⟨rfl, trivial⟩⟩⟩ (hk47 v2 M2)
    · refine J_aload_n (pc := 20) dX1_greed_20 rfl ?_
      refine J_iload_n (pc := 21) dX1_greed_21 rfl ?_
      refine J_iload_n (pc := 22) dX1_greed_22 rfl ?_
      refine J_callV (pc := 23) (n := 2) (b := 20) (vs := [.int c1, .int v3]) (ci := 0) (fun l => C_x_comesIn l c1 v3 M2) (lw_V q928 q930 qs50 q116 q931) nmv_X1_comesIn rfl (by omega) (by decide) rfl (fun h => sh_k1 h 0 rfl) rfl (Nat.le_of_ble_eq_true rfl) dX1_greed_23 (fun v4 M3 => ?_)
      refine J_aload_n (pc := 26) dX1_greed_26 rfl ?_
      refine J_iload_n (pc := 27) dX1_greed_27 rfl ?_
      refine J_iload_n (pc := 28) dX1_greed_28 rfl ?_
      refine J_callV (pc := 29) (n := 2) (b := 20) (vs := [.int c1, .int v2]) (ci := 0) (fun l => C_x_comesIn l c1 v2 M3) (lw_V q928 q930 qs50 q116 q931) nmv_X1_comesIn rfl (by omega) (by decide) rfl (fun h => sh_k1 h 0 rfl) rfl (Nat.le_of_ble_eq_true rfl) dX1_greed_29 (fun v5 M4 => ?_)
      refine J_ltj (β := Int32) (P := fun J => ∀ v6 : Int32, T_x_greed G M4 40 [some (.ref 20), some (.int c1), none, some (.int v3)] [.int v6] (J v6)) (fun v6 => ?_) (fun j1 hj1 => ?_)
      · refine J_istore_n (pc := 40) dX1_greed_40 (by decide) ?_
        refine J_iincL (pc := 41) (n := 1) (by decide) dX1_greed_41 rfl (by decide) (fun v7 => ?_)
        refine J_goto (pc := 44) 14 dX1_greed_44 rfl ?_
        exact J_sub (A := [some (.ref 20), some (.int c1), some (.int v6), some (.int v7)]) ⟨rfl, ⟨rfl, ⟨rfl, ⟨rfl, trivial⟩⟩⟩⟩ (ih v6 v7 M4)
      refine J_icmp_le (pc := 32) 39 dX1_greed_32 rfl (fun h => congrArg j1 (if_pos h)) (fun h => congrArg j1 (if_neg h)) (fun _ => ?_) (fun _ => ?_)
      · refine J_iload_n (pc := 39) dX1_greed_39 rfl ?_
        exact J_sub (A := [some (.ref 20), some (.int c1), none, some (.int v3)]) ⟨rfl, ⟨rfl, ⟨rfl, trivial⟩⟩⟩ (hj1 v2)
      · refine J_iload_n (pc := 35) dX1_greed_35 rfl ?_
        refine J_goto (pc := 36) 40 dX1_greed_36 rfl ?_
        exact J_sub (A := [some (.ref 20), some (.int c1), none, some (.int v3)]) ⟨rfl, ⟨rfl, ⟨rfl, trivial⟩⟩⟩ (hj1 v3)

def x_greed (p1 : Int32) (M : PM) : Option (Int32 × PM) :=
    bd (x_isStation p1 M) fun v1 M1 =>
    if v1 = 0 then (some ((-1), M1))
    else (x_greed_L14 p1 (fun (v8 : Int32) (M5 : PM) =>
    lt (M5.si 20 67 0) fun M6 =>
    bd (x_comesIn p1 v8 M6) fun v9 M7 =>
    bd (x_tells (Int32.toInt64 v9) M7) fun _ M8 =>
    bd (x_comesIn p1 0 M8) fun v10 M9 =>
    bd (x_tells (Int32.toInt64 v10) M9) fun _ M10 =>
    some (v8, M10)) FU 0 1 M1)

set_option maxHeartbeats 4000000 in
theorem t_x_greed (G : JG) (p1 : Int32) (M : PM) : T_x_greed G  M 0 (ent [.ref 20, .int p1] 4) [] (x_greed p1 M) := by
  unfold x_greed
  refine J_aload_n (pc := 0) dX1_greed_0 rfl ?_
  refine J_iload_n (pc := 1) dX1_greed_1 rfl ?_
  refine J_callV (pc := 2) (n := 1) (b := 20) (vs := [.int p1]) (ci := 0) (fun l => C_x_isStation l p1 M) (lw_V q678 q680 qs17 q116 q681) nmv_X1_isStation rfl (by omega) (by decide) rfl (fun h => sh_k1 h 0 rfl) rfl (Nat.le_of_ble_eq_true rfl) dX1_greed_2 (fun v1 M1 => ?_)
  refine J_if_ne (pc := 5) 10 dX1_greed_5 rfl (fun h => if_neg h) (fun h => if_pos h) (fun _ => ?_) (fun _ => ?_)
  · refine J_iconst (pc := 10) 0 dX1_greed_10 (by decide) ?_
    refine J_istore_n (pc := 11) dX1_greed_11 (by decide) ?_
    refine J_iconst (pc := 12) 1 dX1_greed_12 (by decide) ?_
    refine J_istore_n (pc := 13) dX1_greed_13 (by decide) ?_
    refine J_sub (A := [some (.ref 20), some (.int p1), some (.int 0), some (.int 1)]) ⟨rfl, ⟨rfl, ⟨rfl, ⟨rfl, trivial⟩⟩⟩⟩ (t_x_greed_L14 G p1 _ ?_ FU 0 1 M1)
    · intro v8 M5
      refine J_aload_n (pc := 47) dX1_greed_47 rfl ?_
      refine J_iconst (pc := 48) 0 dX1_greed_48 (by decide) ?_
      refine J_put (pc := 49) (a := 20) (v := .int 0) (M' := M5.si 20 67 0) (c := 0) rfl in_X1 tyX1_ok fnX1 67 (by decide) q251 rfl (Or.inl rfl) (fun h => sh_k1 h 0 rfl) (fun _ => rfl) (fun _ => rfl) ⟨⟨rfl, rfl⟩, rfl⟩ (fun _ hb => up2_same hb) (fun _ _ => rfl) (fun _ _ => rfl) (put_i (fun _ _ _ => rfl)) (fun h => Sh_si h) dX1_greed_49 ?_
      refine J_ltM (fun M6 => ?_)
      refine J_aload_n (pc := 52) dX1_greed_52 rfl ?_
      refine J_aload_n (pc := 53) dX1_greed_53 rfl ?_
      refine J_iload_n (pc := 54) dX1_greed_54 rfl ?_
      refine J_iload_n (pc := 55) dX1_greed_55 rfl ?_
      refine J_callV (pc := 56) (n := 2) (b := 20) (vs := [.int p1, .int v8]) (ci := 0) (fun l => C_x_comesIn l p1 v8 M6) (lw_V q928 q930 qs50 q116 q931) nmv_X1_comesIn rfl (by omega) (by decide) rfl (fun h => sh_k1 h 0 rfl) rfl (Nat.le_of_ble_eq_true rfl) dX1_greed_56 (fun v9 M7 => ?_)
      refine J_i2l (pc := 59) dX1_greed_59 ?_
      refine J_callV (pc := 60) (n := 1) (b := 20) (vs := [.long (Int32.toInt64 v9)]) (ci := 0) (fun l => C_x_tells l (Int32.toInt64 v9) M7) (lw_V q708 q710 qs20 q116 q711) nmv_X1_tells rfl (by omega) (by decide) rfl (fun h => sh_k1 h 0 rfl) rfl (Nat.le_of_ble_eq_true rfl) dX1_greed_60 (fun _ M8 => ?_)
      refine J_aload_n (pc := 63) dX1_greed_63 rfl ?_
      refine J_aload_n (pc := 64) dX1_greed_64 rfl ?_
      refine J_iload_n (pc := 65) dX1_greed_65 rfl ?_
      refine J_iconst (pc := 66) 0 dX1_greed_66 (by decide) ?_
      refine J_callV (pc := 67) (n := 2) (b := 20) (vs := [.int p1, .int 0]) (ci := 0) (fun l => C_x_comesIn l p1 0 M8) (lw_V q928 q930 qs50 q116 q931) nmv_X1_comesIn rfl (by omega) (by decide) rfl (fun h => sh_k1 h 0 rfl) rfl (Nat.le_of_ble_eq_true rfl) dX1_greed_67 (fun v10 M9 => ?_)
      refine J_i2l (pc := 70) dX1_greed_70 ?_
      refine J_callV (pc := 71) (n := 1) (b := 20) (vs := [.long (Int32.toInt64 v10)]) (ci := 0) (fun l => C_x_tells l (Int32.toInt64 v10) M9) (lw_V q708 q710 qs20 q116 q711) nmv_X1_tells rfl (by omega) (by decide) rfl (fun h => sh_k1 h 0 rfl) rfl (Nat.le_of_ble_eq_true rfl) dX1_greed_71 (fun _ M10 => ?_)
      refine J_iload_n (pc := 74) dX1_greed_74 rfl ?_
      exact J_iret (pc := 75) dX1_greed_75
  · refine J_iconst (pc := 8) (-1) dX1_greed_8 (by decide) ?_
    exact J_iret (pc := 9) dX1_greed_9

theorem C_x_greed (l : Launch) (p1 : Int32) (M : PM) : Ctr l Sh yX1_greed cX1_greed 4 (some .int) 145 rvI [.ref 20, .int p1] M (x_greed p1 M) := Ctr.of (by decide +kernel) (Nat.le_of_ble_eq_true rfl) (fun G => t_x_greed G p1 M)

abbrev T_x_law (G : JG) (M : PM) (pc : Nat) (L : List (Option Value)) (S : List Value) (o : Option (Int32 × PM)) : Prop := JJ G cX1_law yX1_law 10 143 (some .int) Sh (finR G Sh rvI) M pc L S o
def x_law_L39 (c1 : Int32) (c3 : Option Nat) (k125 : Int32 → Int32 → Int32 → PM → Option (Int32 × PM)) : Nat → Int32 → Int32 → Int32 → Int32 → PM → Option (Int32 × PM)
  | 0, _, _, _, _, _ => none
  | n + 1, v3, v4, v5, v6, M3 =>
    if (M3.i 20 11) ≤ v6 then (k125 v3 v4 v5 M3)
    else (bd (x_tollNow v6 c1 M3) fun v7 M4 =>
    lt (M4.r 20 39) fun r2 =>
    lt (M4.sr 20 38 r2) fun M5 =>
    bd (x_tollNow v6 c1 M5) fun v8 M6 =>
    lt (v8 - v7) fun v9 =>
    lt (M6.sr 20 38 c3) fun M7 =>
    lt (if v9 ≤ 0 then 0 else 1 : Int32) fun v10 =>
    lt (v3 + v10) fun v11 =>
    lt (if 0 ≤ v9 then 0 else 1 : Int32) fun v12 =>
    lt (v4 + v12) fun v13 =>
    lt (v5 + v9) fun v14 =>
    lt (v6 + 1) fun v15 =>
    x_law_L39 c1 c3 k125 n v11 v13 v14 v15 M7)

set_option maxHeartbeats 4000000 in
theorem t_x_law_L39 (G : JG) (c1 : Int32) (c3 : Option Nat) (k125 : Int32 → Int32 → Int32 → PM → Option (Int32 × PM)) (hk125 : ∀ z4 z5 z6 Me, T_x_law G  Me 125 [some (.ref 20), none, none, none, some (.int z4), some (.int z5), some (.int z6), none, none, none] [] (k125 z4 z5 z6 Me)) : ∀ (n : Nat) (v3 : Int32) (v4 : Int32) (v5 : Int32) (v6 : Int32) (M3 : PM), T_x_law G  M3 39 [some (.ref 20), some (.int c1), none, some (va_rf c3), some (.int v3), some (.int v4), some (.int v5), some (.int v6), none, none] [] (x_law_L39 c1 c3 k125 n v3 v4 v5 v6 M3) := by
  intro n
  induction n with
  | zero =>
    intro v3 v4 v5 v6 M3
    exact J_none
  | succ n ih =>
    intro v3 v4 v5 v6 M3
    rw [x_law_L39]
    refine J_iload (pc := 39) dX1_law_39 rfl ?_
    refine J_aload_n (pc := 41) dX1_law_41 rfl ?_
    refine J_get (pc := 42) (c := 0) (.int (M3.i 20 11)) rfl in_X1 11 (by decide) q188 rfl (fun h => sh_k1 h 0 rfl) (fun _ _ => rfl) dX1_law_42 ?_
    refine J_icmp_ge (pc := 45) 125 dX1_law_45 rfl (fun h => if_pos h) (fun h => if_neg h) (fun _ => ?_) (fun _ => ?_)
    · exact J_sub (A := [some (.ref 20), none, none, none, some (.int v3), some (.int v4), some (.int v5), none, none, none]) ⟨rfl, ⟨rfl, ⟨rfl, ⟨rfl, trivial⟩⟩⟩⟩ (hk125 v3 v4 v5 M3)
    · refine J_aload_n (pc := 48) dX1_law_48 rfl ?_
      refine J_iload (pc := 49) dX1_law_49 rfl ?_
      refine J_iload_n (pc := 51) dX1_law_51 rfl ?_
      refine J_callV (pc := 52) (n := 2) (b := 20) (vs := [.int v6, .int c1]) (ci := 0) (fun l => C_x_tollNow l v6 c1 M3) (lw_V q800 q802 qs34 q116 q803) nmv_X1_tollNow rfl (by omega) (by decide) rfl (fun h => sh_k1 h 0 rfl) rfl (Nat.le_of_ble_eq_true rfl) dX1_law_52 (fun v7 M4 => ?_)
      refine J_istore (pc := 55) dX1_law_55 (by decide) ?_
      refine J_aload_n (pc := 57) dX1_law_57 rfl ?_
      refine J_aload_n (pc := 58) dX1_law_58 rfl ?_
      refine J_getO (pc := 59) (c := 0) rfl in_X1 39 (by decide) q223 rfl (fun h => sh_k1 h 0 rfl) (fun _ _ => fv_rf (Or.inl ⟨_, rfl⟩)) dX1_law_59 (fun r2 => ?_)
      refine J_put (pc := 62) (a := 20) (v := va_rf r2) (M' := M4.sr 20 38 r2) (c := 0) rfl in_X1 tyX1_ok fnX1 38 (by decide) q222 rfl (Or.inl rfl) (fun h => sh_k1 h 0 rfl) (fun ad => (nrw_r _ (Or.inl ⟨_, rfl⟩) r2 ad).1) (fun ad => (nrw_r _ (Or.inl ⟨_, rfl⟩) r2 ad).2) ⟨⟨rfl, rfl⟩, rfl⟩ (fun _ _ => rfl) (fun _ _ => rfl) (fun _ hb => up2_same hb) (put_r (fun _ _ _ => rfl)) (fun h => Sh_sr h (by decide)) dX1_law_62 ?_
      refine J_ltM (fun M5 => ?_)
      refine J_aload_n (pc := 65) dX1_law_65 rfl ?_
      refine J_iload (pc := 66) dX1_law_66 rfl ?_
      refine J_iload_n (pc := 68) dX1_law_68 rfl ?_
      refine J_callV (pc := 69) (n := 2) (b := 20) (vs := [.int v6, .int c1]) (ci := 0) (fun l => C_x_tollNow l v6 c1 M5) (lw_V q800 q802 qs34 q116 q803) nmv_X1_tollNow rfl (by omega) (by decide) rfl (fun h => sh_k1 h 0 rfl) rfl (Nat.le_of_ble_eq_true rfl) dX1_law_69 (fun v8 M6 => ?_)
      refine J_iload (pc := 72) dX1_law_72 rfl ?_
      refine J_isub (pc := 74) dX1_law_74 ?_
      refine J_lt (β := Int32) (v := (v8 - v7)) (L := fun _ => _) (S := fun v9 => [.int v9]) (fun v9 => ?_)
      refine J_istore (pc := 75) dX1_law_75 (by decide) ?_
      refine J_aload_n (pc := 77) dX1_law_77 rfl ?_
      refine J_aloadO_n (pc := 78) dX1_law_78 rfl ?_
      refine J_put (pc := 79) (a := 20) (v := va_rf c3) (M' := M6.sr 20 38 c3) (c := 0) rfl in_X1 tyX1_ok fnX1 38 (by decide) q222 rfl (Or.inl rfl) (fun h => sh_k1 h 0 rfl) (fun ad => (nrw_r _ (Or.inl ⟨_, rfl⟩) c3 ad).1) (fun ad => (nrw_r _ (Or.inl ⟨_, rfl⟩) c3 ad).2) ⟨⟨rfl, rfl⟩, rfl⟩ (fun _ _ => rfl) (fun _ _ => rfl) (fun _ hb => up2_same hb) (put_r (fun _ _ _ => rfl)) (fun h => Sh_sr h (by decide)) dX1_law_79 ?_
      refine J_ltM (fun M7 => ?_)
      refine J_iload (pc := 82) dX1_law_82 rfl ?_
      refine J_iload (pc := 84) dX1_law_84 rfl ?_
      refine J_ltj (β := Int32) (P := fun J => ∀ v10 : Int32, T_x_law G M7 94 [some (.ref 20), some (.int c1), none, some (va_rf c3), none, some (.int v4), some (.int v5), some (.int v6), none, some (.int v9)] [.int v10, .int v3] (J v10)) (fun v10 => ?_) (fun j1 hj1 => ?_)
      · refine J_iadd (pc := 94) dX1_law_94 ?_
        refine J_lt (β := Int32) (v := (v3 + v10)) (L := fun _ => _) (S := fun v11 => [.int v11]) (fun v11 => ?_)
        refine J_istore (pc := 95) dX1_law_95 (by decide) ?_
        refine J_iload (pc := 97) dX1_law_97 rfl ?_
        refine J_iload (pc := 99) dX1_law_99 rfl ?_
        refine J_ltj (β := Int32) (P := fun J => ∀ v12 : Int32, T_x_law G M7 109 [some (.ref 20), some (.int c1), none, some (va_rf c3), some (.int v11), none, some (.int v5), some (.int v6), none, some (.int v9)] [.int v12, .int v4] (J v12)) (fun v12 => ?_) (fun j2 hj2 => ?_)
        · refine J_iadd (pc := 109) dX1_law_109 ?_
          refine J_lt (β := Int32) (v := (v4 + v12)) (L := fun _ => _) (S := fun v13 => [.int v13]) (fun v13 => ?_)
          refine J_istore (pc := 110) dX1_law_110 (by decide) ?_
          refine J_iload (pc := 112) dX1_law_112 rfl ?_
          refine J_iload (pc := 114) dX1_law_114 rfl ?_
          refine J_iadd (pc := 116) dX1_law_116 ?_
          refine J_lt (β := Int32) (v := (v5 + v9)) (L := fun _ => _) (S := fun v14 => [.int v14]) (fun v14 => ?_)
          refine J_istore (pc := 117) dX1_law_117 (by decide) ?_
          refine J_iincL (pc := 119) (n := 1) (by decide) dX1_law_119 rfl (by decide) (fun v15 => ?_)
          refine J_goto (pc := 122) 39 dX1_law_122 rfl ?_
          exact J_sub (A := [some (.ref 20), some (.int c1), none, some (va_rf c3), some (.int v11), some (.int v13), some (.int v14), some (.int v15), none, none]) ⟨rfl, ⟨rfl, ⟨(by first | rfl | simp only [kill2_rf]), ⟨rfl, ⟨rfl, ⟨rfl, ⟨rfl, trivial⟩⟩⟩⟩⟩⟩⟩ (ih v11 v13 v14 v15 M7)
        refine J_if_ge (pc := 101) 108 dX1_law_101 rfl (fun h => congrArg j2 (if_pos h)) (fun h => congrArg j2 (if_neg h)) (fun _ => ?_) (fun _ => ?_)
        · refine J_iconst (pc := 108) 0 dX1_law_108 (by decide) ?_
          exact J_sub (A := [some (.ref 20), some (.int c1), none, some (va_rf c3), some (.int v11), none, some (.int v5), some (.int v6), none, some (.int v9)]) ⟨rfl, ⟨rfl, ⟨(by first | rfl | simp only [kill2_rf]), ⟨rfl, ⟨rfl, ⟨rfl, ⟨rfl, trivial⟩⟩⟩⟩⟩⟩⟩ (hj2 0)
        · refine J_iconst (pc := 104) 1 dX1_law_104 (by decide) ?_
          refine J_goto (pc := 105) 109 dX1_law_105 rfl ?_
          exact J_sub (A := [some (.ref 20), some (.int c1), none, some (va_rf c3), some (.int v11), none, some (.int v5), some (.int v6), none, some (.int v9)]) ⟨rfl, ⟨rfl, ⟨(by first | rfl | simp only [kill2_rf]), ⟨rfl, ⟨rfl, ⟨rfl, ⟨rfl, trivial⟩⟩⟩⟩⟩⟩⟩ (hj2 1)
      refine J_if_le (pc := 86) 93 dX1_law_86 rfl (fun h => congrArg j1 (if_pos h)) (fun h => congrArg j1 (if_neg h)) (fun _ => ?_) (fun _ => ?_)
      · refine J_iconst (pc := 93) 0 dX1_law_93 (by decide) ?_
        exact J_sub (A := [some (.ref 20), some (.int c1), none, some (va_rf c3), none, some (.int v4), some (.int v5), some (.int v6), none, some (.int v9)]) ⟨rfl, ⟨rfl, ⟨(by first | rfl | simp only [kill2_rf]), ⟨rfl, ⟨rfl, ⟨rfl, ⟨rfl, trivial⟩⟩⟩⟩⟩⟩⟩ (hj1 0)
      · refine J_iconst (pc := 89) 1 dX1_law_89 (by decide) ?_
        refine J_goto (pc := 90) 94 dX1_law_90 rfl ?_
        exact J_sub (A := [some (.ref 20), some (.int c1), none, some (va_rf c3), none, some (.int v4), some (.int v5), some (.int v6), none, some (.int v9)]) ⟨rfl, ⟨rfl, ⟨(by first | rfl | simp only [kill2_rf]), ⟨rfl, ⟨rfl, ⟨rfl, ⟨rfl, trivial⟩⟩⟩⟩⟩⟩⟩ (hj1 1)

def x_law (p1 : Int32) (M : PM) : Option (Int32 × PM) :=
    bd (x_readsRule M) fun v1 M1 =>
    bd (x_isStation p1 M1) fun v2 M2 =>
    if v2 = 0 then (some ((-100), M2))
    else (if 0 ≤ v1 then (lt (M2.r 20 38) fun r1 =>
    x_law_L39 p1 r1 (fun (v16 : Int32) (v17 : Int32) (v18 : Int32) (M8 : PM) =>
    lt (M8.si 20 67 0) fun M9 =>
    bd (x_tells (Int32.toInt64 v17) M9) fun _ M10 =>
    bd (x_tells (Int32.toInt64 v18) M10) fun _ M11 =>
    some (v16, M11)) FU 0 0 0 0 M2)
    else (some (v1, M2)))

set_option maxHeartbeats 4000000 in
theorem t_x_law (G : JG) (p1 : Int32) (M : PM) : T_x_law G  M 0 (ent [.ref 20, .int p1] 10) [] (x_law p1 M) := by
  unfold x_law
  refine J_aload_n (pc := 0) dX1_law_0 rfl ?_
  refine J_callV (pc := 1) (n := 0) (b := 20) (vs := []) (ci := 0) (fun l => C_x_readsRule l  M) (lw_V q570 q572 qs13 q116 q573) nmv_X1_readsRule rfl (by omega) (by decide) rfl (fun h => sh_k1 h 0 rfl) rfl (Nat.le_of_ble_eq_true rfl) dX1_law_1 (fun v1 M1 => ?_)
  refine J_istore_n (pc := 4) dX1_law_4 (by decide) ?_
  refine J_aload_n (pc := 5) dX1_law_5 rfl ?_
  refine J_iload_n (pc := 6) dX1_law_6 rfl ?_
  refine J_callV (pc := 7) (n := 1) (b := 20) (vs := [.int p1]) (ci := 0) (fun l => C_x_isStation l p1 M1) (lw_V q678 q680 qs17 q116 q681) nmv_X1_isStation rfl (by omega) (by decide) rfl (fun h => sh_k1 h 0 rfl) rfl (Nat.le_of_ble_eq_true rfl) dX1_law_7 (fun v2 M2 => ?_)
  refine J_if_ne (pc := 10) 16 dX1_law_10 rfl (fun h => if_neg h) (fun h => if_pos h) (fun _ => ?_) (fun _ => ?_)
  · refine J_iload_n (pc := 16) dX1_law_16 rfl ?_
    refine J_if_ge (pc := 17) 22 dX1_law_17 rfl (fun h => if_pos h) (fun h => if_neg h) (fun _ => ?_) (fun _ => ?_)
    · refine J_aload_n (pc := 22) dX1_law_22 rfl ?_
      refine J_getO (pc := 23) (c := 0) rfl in_X1 38 (by decide) q222 rfl (fun h => sh_k1 h 0 rfl) (fun _ _ => fv_rf (Or.inl ⟨_, rfl⟩)) dX1_law_23 (fun r1 => ?_)
      refine J_astoreO_n (pc := 26) dX1_law_26 (by decide) ?_
      refine J_iconst (pc := 27) 0 dX1_law_27 (by decide) ?_
      refine J_istore (pc := 28) dX1_law_28 (by decide) ?_
      refine J_iconst (pc := 30) 0 dX1_law_30 (by decide) ?_
      refine J_istore (pc := 31) dX1_law_31 (by decide) ?_
      refine J_iconst (pc := 33) 0 dX1_law_33 (by decide) ?_
      refine J_istore (pc := 34) dX1_law_34 (by decide) ?_
      refine J_iconst (pc := 36) 0 dX1_law_36 (by decide) ?_
      refine J_istore (pc := 37) dX1_law_37 (by decide) ?_
      refine J_sub (A := [some (.ref 20), some (.int p1), none, some (va_rf r1), some (.int 0), some (.int 0), some (.int 0), some (.int 0), none, none]) ⟨rfl, ⟨rfl, ⟨(by first | rfl | simp only [kill2_rf]), ⟨rfl, ⟨rfl, ⟨rfl, ⟨rfl, trivial⟩⟩⟩⟩⟩⟩⟩ (t_x_law_L39 G p1 r1 _ ?_ FU 0 0 0 0 M2)
      · intro v16 v17 v18 M8
        refine J_aload_n (pc := 125) dX1_law_125 rfl ?_
        refine J_iconst (pc := 126) 0 dX1_law_126 (by decide) ?_
        refine J_put (pc := 127) (a := 20) (v := .int 0) (M' := M8.si 20 67 0) (c := 0) rfl in_X1 tyX1_ok fnX1 67 (by decide) q251 rfl (Or.inl rfl) (fun h => sh_k1 h 0 rfl) (fun _ => rfl) (fun _ => rfl) ⟨⟨rfl, rfl⟩, rfl⟩ (fun _ hb => up2_same hb) (fun _ _ => rfl) (fun _ _ => rfl) (put_i (fun _ _ _ => rfl)) (fun h => Sh_si h) dX1_law_127 ?_
        refine J_ltM (fun M9 => ?_)
        refine J_aload_n (pc := 130) dX1_law_130 rfl ?_
        refine J_iload (pc := 131) dX1_law_131 rfl ?_
        refine J_i2l (pc := 133) dX1_law_133 ?_
        refine J_callV (pc := 134) (n := 1) (b := 20) (vs := [.long (Int32.toInt64 v17)]) (ci := 0) (fun l => C_x_tells l (Int32.toInt64 v17) M9) (lw_V q708 q710 qs20 q116 q711) nmv_X1_tells rfl (by omega) (by decide) rfl (fun h => sh_k1 h 0 rfl) rfl (Nat.le_of_ble_eq_true rfl) dX1_law_134 (fun _ M10 => ?_)
        refine J_aload_n (pc := 137) dX1_law_137 rfl ?_
        refine J_iload (pc := 138) dX1_law_138 rfl ?_
        refine J_i2l (pc := 140) dX1_law_140 ?_
        refine J_callV (pc := 141) (n := 1) (b := 20) (vs := [.long (Int32.toInt64 v18)]) (ci := 0) (fun l => C_x_tells l (Int32.toInt64 v18) M10) (lw_V q708 q710 qs20 q116 q711) nmv_X1_tells rfl (by omega) (by decide) rfl (fun h => sh_k1 h 0 rfl) rfl (Nat.le_of_ble_eq_true rfl) dX1_law_141 (fun _ M11 => ?_)
        refine J_iload (pc := 144) dX1_law_144 rfl ?_
        exact J_iret (pc := 146) dX1_law_146
    · refine J_iload_n (pc := 20) dX1_law_20 rfl ?_
      exact J_iret (pc := 21) dX1_law_21
  · refine J_bipush (pc := 13) (-100) dX1_law_13 (by decide) ?_
    exact J_iret (pc := 15) dX1_law_15

theorem C_x_law (l : Launch) (p1 : Int32) (M : PM) : Ctr l Sh yX1_law cX1_law 10 (some .int) 143 rvI [.ref 20, .int p1] M (x_law p1 M) := Ctr.of (by decide +kernel) (Nat.le_of_ble_eq_true rfl) (fun G => t_x_law G p1 M)

abbrev T_x_vowelIn (G : JG) (M : PM) (pc : Nat) (L : List (Option Value)) (S : List Value) (o : Option (Int32 × PM)) : Prop := JJ G cX1_vowelIn yX1_vowelIn 5 7 (some .int) Sh (finR G Sh rvI) M pc L S o
def x_vowelIn_L5 (c1 : Int32) (c2 : Int32) : Nat → Int32 → Int32 → PM → Option (Int32 × PM)
  | 0, _, _, _ => none
  | n + 1, v1, v2, M1 =>
    ck c1 10 <|
    if (M1.i 32 (ix c1)) ≤ v2 then (some (v1, M1))
    else (bd (x_vowelAt c1 v2 M1) fun v3 M2 =>
    lt (if v3 = c2 then 1 else 0 : Int32) fun v4 =>
    lt (v1 + v4) fun v5 =>
    lt (v2 + 1) fun v6 =>
    x_vowelIn_L5 c1 c2 n v5 v6 M2)

set_option maxHeartbeats 4000000 in
theorem t_x_vowelIn_L5 (G : JG) (c1 : Int32) (c2 : Int32) : ∀ (n : Nat) (v1 : Int32) (v2 : Int32) (M1 : PM), T_x_vowelIn G  M1 5 [some (.ref 20), some (.int c1), some (.int c2), some (.int v1), some (.int v2)] [] (x_vowelIn_L5 c1 c2 n v1 v2 M1) := by
  intro n
  induction n with
  | zero =>
    intro v1 v2 M1
    exact J_none
  | succ n ih =>
    intro v1 v2 M1
    rw [x_vowelIn_L5]
    refine J_iload (pc := 5) dX1_vowelIn_5 rfl ?_
    refine J_aload_n (pc := 7) dX1_vowelIn_7 rfl ?_
    refine J_get (pc := 8) (c := 0) (.ref 32) rfl in_X1 3 (by decide) q180 rfl (fun h => sh_k1 h 0 rfl) (fun h _ => fv_ref (Or.inr ⟨_, rfl⟩) (sh_r h 11 rfl)) dX1_vowelIn_8 ?_
    refine J_iload_n (pc := 11) dX1_vowelIn_11 rfl ?_
    refine J_ck (fun h1 => ?_)
    refine J_iald (pc := 12) (a := 32) (fun h => sh_a h 12 rfl h1) dX1_vowelIn_12 ?_
    refine J_icmp_ge (pc := 13) 41 dX1_vowelIn_13 rfl (fun h => if_pos h) (fun h => if_neg h) (fun _ => ?_) (fun _ => ?_)
    · refine J_iload_n (pc := 41) dX1_vowelIn_41 rfl ?_
      exact J_iret (pc := 42) dX1_vowelIn_42
    · refine J_iload_n (pc := 16) dX1_vowelIn_16 rfl ?_
      refine J_aload_n (pc := 17) dX1_vowelIn_17 rfl ?_
      refine J_iload_n (pc := 18) dX1_vowelIn_18 rfl ?_
      refine J_iload (pc := 19) dX1_vowelIn_19 rfl ?_
      refine J_callV (pc := 21) (n := 2) (b := 20) (vs := [.int c1, .int v2]) (ci := 0) (fun l => C_x_vowelAt l c1 v2 M1) (lw_V q686 q688 qs19 q116 q689) nmv_X1_vowelAt rfl (by omega) (by decide) rfl (fun h => sh_k1 h 0 rfl) rfl (Nat.le_of_ble_eq_true rfl) dX1_vowelIn_21 (fun v3 M2 => ?_)
      refine J_iload_n (pc := 24) dX1_vowelIn_24 rfl ?_
      refine J_ltj (β := Int32) (P := fun J => ∀ v4 : Int32, T_x_vowelIn G M2 33 [some (.ref 20), some (.int c1), some (.int c2), none, some (.int v2)] [.int v4, .int v1] (J v4)) (fun v4 => ?_) (fun j1 hj1 => ?_)
      · refine J_iadd (pc := 33) dX1_vowelIn_33 ?_
        refine J_lt (β := Int32) (v := (v1 + v4)) (L := fun _ => _) (S := fun v5 => [.int v5]) (fun v5 => ?_)
        refine J_istore_n (pc := 34) dX1_vowelIn_34 (by decide) ?_
        refine J_iincL (pc := 35) (n := 1) (by decide) dX1_vowelIn_35 rfl (by decide) (fun v6 => ?_)
        refine J_goto (pc := 38) 5 dX1_vowelIn_38 rfl ?_
        exact J_sub (A := [some (.ref 20), some (.int c1), some (.int c2), some (.int v5), some (.int v6)]) ⟨rfl, ⟨rfl, ⟨rfl, ⟨rfl, ⟨rfl, trivial⟩⟩⟩⟩⟩ (ih v5 v6 M2)
      refine J_icmp_ne (pc := 25) 32 dX1_vowelIn_25 rfl (fun h => congrArg j1 (if_neg h)) (fun h => congrArg j1 (if_pos h)) (fun _ => ?_) (fun _ => ?_)
      · refine J_iconst (pc := 32) 0 dX1_vowelIn_32 (by decide) ?_
        exact J_sub (A := [some (.ref 20), some (.int c1), some (.int c2), none, some (.int v2)]) ⟨rfl, ⟨rfl, ⟨rfl, ⟨rfl, trivial⟩⟩⟩⟩ (hj1 0)
      · refine J_iconst (pc := 28) 1 dX1_vowelIn_28 (by decide) ?_
        refine J_goto (pc := 29) 33 dX1_vowelIn_29 rfl ?_
        exact J_sub (A := [some (.ref 20), some (.int c1), some (.int c2), none, some (.int v2)]) ⟨rfl, ⟨rfl, ⟨rfl, ⟨rfl, trivial⟩⟩⟩⟩ (hj1 1)

def x_vowelIn (p1 : Int32) (p2 : Int32) (M : PM) : Option (Int32 × PM) :=
    x_vowelIn_L5 p1 p2 FU 0 0 M

set_option maxHeartbeats 4000000 in
theorem t_x_vowelIn (G : JG) (p1 : Int32) (p2 : Int32) (M : PM) : T_x_vowelIn G  M 0 (ent [.ref 20, .int p1, .int p2] 5) [] (x_vowelIn p1 p2 M) := by
  unfold x_vowelIn
  refine J_iconst (pc := 0) 0 dX1_vowelIn_0 (by decide) ?_
  refine J_istore_n (pc := 1) dX1_vowelIn_1 (by decide) ?_
  refine J_iconst (pc := 2) 0 dX1_vowelIn_2 (by decide) ?_
  refine J_istore (pc := 3) dX1_vowelIn_3 (by decide) ?_
  refine J_sub (A := [some (.ref 20), some (.int p1), some (.int p2), some (.int 0), some (.int 0)]) ⟨rfl, ⟨rfl, ⟨rfl, ⟨rfl, ⟨rfl, trivial⟩⟩⟩⟩⟩ (t_x_vowelIn_L5 G p1 p2  FU 0 0 M)

theorem C_x_vowelIn (l : Launch) (p1 : Int32) (p2 : Int32) (M : PM) : Ctr l Sh yX1_vowelIn cX1_vowelIn 5 (some .int) 7 rvI [.ref 20, .int p1, .int p2] M (x_vowelIn p1 p2 M) := Ctr.of (by decide +kernel) (Nat.le_of_ble_eq_true rfl) (fun G => t_x_vowelIn G p1 p2 M)

abbrev T_x_changesLeft (G : JG) (M : PM) (pc : Nat) (L : List (Option Value)) (S : List Value) (o : Option (Int32 × PM)) : Prop := JJ G cX1_changesLeft yX1_changesLeft 5 8 (some .boolean) Sh (finR G Sh rvI) M pc L S o
def x_changesLeft_L5 (c1 : Int32) (c2 : Int32) : Nat → Int32 → Int32 → PM → Option (Int32 × PM)
  | 0, _, _, _ => none
  | n + 1, v1, v2, M1 =>
    if 5 ≤ v2 then (ckb (v1 = 0 ∨ v1 = 1) <|
    some (v1, M1))
    else (ck v2 5 <|
    bd (x_vowelIn c1 v2 M1) fun v3 M2 =>
    ck v2 5 <|
    lt (M2.si 66 (ix v2) ((M1.i 66 (ix v2)) - (c2 * v3))) fun M3 =>
    jn (fun (v4 : Int32) (M4 : PM) =>
    lt (v2 + 1) fun v5 =>
    x_changesLeft_L5 c1 c2 n v4 v5 M4) fun j1 =>
    if v1 = 0 then (j1 0 M3)
    else (ck v2 5 <|
    if (M3.i 66 (ix v2)) < 0 then (j1 0 M3)
    else (j1 1 M3)))

set_option maxHeartbeats 4000000 in
theorem t_x_changesLeft_L5 (G : JG) (c1 : Int32) (c2 : Int32) : ∀ (n : Nat) (v1 : Int32) (v2 : Int32) (M1 : PM), T_x_changesLeft G  M1 5 [some (.ref 20), some (.int c1), some (.int c2), some (.int v1), some (.int v2)] [] (x_changesLeft_L5 c1 c2 n v1 v2 M1) := by
  intro n
  induction n with
  | zero =>
    intro v1 v2 M1
    exact J_none
  | succ n ih =>
    intro v1 v2 M1
    rw [x_changesLeft_L5]
    refine J_iload (pc := 5) dX1_changesLeft_5 rfl ?_
    refine J_iconst (pc := 7) 5 dX1_changesLeft_7 (by decide) ?_
    refine J_icmp_ge (pc := 8) 56 dX1_changesLeft_8 rfl (fun h => if_pos h) (fun h => if_neg h) (fun _ => ?_) (fun _ => ?_)
    · refine J_iload_n (pc := 56) dX1_changesLeft_56 rfl ?_
      refine J_ckb (fun h1 => ?_)
      exact J_zret (pc := 57) (nz h1) dX1_changesLeft_57
    · refine J_aload_n (pc := 11) dX1_changesLeft_11 rfl ?_
      refine J_get (pc := 12) (c := 0) (.ref 66) rfl in_X1 58 (by decide) q242 rfl (fun h => sh_k1 h 0 rfl) (fun h _ => fv_ref (Or.inr ⟨_, rfl⟩) (sh_r h 45 rfl)) dX1_changesLeft_12 ?_
      refine J_iload (pc := 15) dX1_changesLeft_15 rfl ?_
      refine J_dup2 (pc := 17) dX1_changesLeft_17 rfl rfl ?_
      refine J_ck (fun h2 => ?_)
      refine J_iald (pc := 18) (a := 66) (fun h => sh_a h 46 rfl h2) dX1_changesLeft_18 ?_
      refine J_iload_n (pc := 19) dX1_changesLeft_19 rfl ?_
      refine J_aload_n (pc := 20) dX1_changesLeft_20 rfl ?_
      refine J_iload_n (pc := 21) dX1_changesLeft_21 rfl ?_
      refine J_iload (pc := 22) dX1_changesLeft_22 rfl ?_
      refine J_callV (pc := 24) (n := 2) (b := 20) (vs := [.int c1, .int v2]) (ci := 0) (fun l => C_x_vowelIn l c1 v2 M1) (lw_V q956 q958 qs54 q116 q959) nmv_X1_vowelIn rfl (by omega) (by decide) rfl (fun h => sh_k1 h 0 rfl) rfl (Nat.le_of_ble_eq_true rfl) dX1_changesLeft_24 (fun v3 M2 => ?_)
      refine J_imul (pc := 27) dX1_changesLeft_27 ?_
      refine J_isub (pc := 28) dX1_changesLeft_28 ?_
      refine J_ck (fun h3 => ?_)
      refine J_iast (pc := 29) (a := 66) (fun h => sh_a h 46 rfl h3) (fun h => Sh_si h) dX1_changesLeft_29 ?_
      refine J_ltM (fun M3 => ?_)
      refine J_iload_n (pc := 30) dX1_changesLeft_30 rfl ?_
      refine J_jn (P := fun J => ∀ (v4 : Int32) (M4 : PM), T_x_changesLeft G  M4 49 [some (.ref 20), some (.int c1), some (.int c2), none, some (.int v2)] [.int v4] (J v4 M4)) (fun v4 M4 => ?_) (fun j1 hj1 => ?_)
      · refine J_istore_n (pc := 49) dX1_changesLeft_49 (by decide) ?_
        refine J_iincL (pc := 50) (n := 1) (by decide) dX1_changesLeft_50 rfl (by decide) (fun v5 => ?_)
        refine J_goto (pc := 53) 5 dX1_changesLeft_53 rfl ?_
        exact J_sub (A := [some (.ref 20), some (.int c1), some (.int c2), some (.int v4), some (.int v5)]) ⟨rfl, ⟨rfl, ⟨rfl, ⟨rfl, ⟨rfl, trivial⟩⟩⟩⟩⟩ (ih v4 v5 M4)
      refine J_if_eq (pc := 31) 48 dX1_changesLeft_31 rfl (fun h => if_pos h) (fun h => if_neg h) (fun _ => ?_) (fun _ => ?_)
      · refine J_iconst (pc := 48) 0 dX1_changesLeft_48 (by decide) ?_
        exact J_sub (A := [some (.ref 20), some (.int c1), some (.int c2), none, some (.int v2)]) ⟨rfl, ⟨rfl, ⟨rfl, ⟨rfl, trivial⟩⟩⟩⟩ (hj1 0 M3)
      · refine J_aload_n (pc := 34) dX1_changesLeft_34 rfl ?_
        refine J_get (pc := 35) (c := 0) (.ref 66) rfl in_X1 58 (by decide) q242 rfl (fun h => sh_k1 h 0 rfl) (fun h _ => fv_ref (Or.inr ⟨_, rfl⟩) (sh_r h 45 rfl)) dX1_changesLeft_35 ?_
        refine J_iload (pc := 38) dX1_changesLeft_38 rfl ?_
        refine J_ck (fun h4 => ?_)
        refine J_iald (pc := 40) (a := 66) (fun h => sh_a h 46 rfl h4) dX1_changesLeft_40 ?_
        refine J_if_lt (pc := 41) 48 dX1_changesLeft_41 rfl (fun h => if_pos h) (fun h => if_neg h) (fun _ => ?_) (fun _ => ?_)
        · refine J_iconst (pc := 48) 0 dX1_changesLeft_48 (by decide) ?_
          exact J_sub (A := [some (.ref 20), some (.int c1), some (.int c2), none, some (.int v2)]) ⟨rfl, ⟨rfl, ⟨rfl, ⟨rfl, trivial⟩⟩⟩⟩ (hj1 0 M3)
        · refine J_iconst (pc := 44) 1 dX1_changesLeft_44 (by decide) ?_
          refine J_goto (pc := 45) 49 dX1_changesLeft_45 rfl ?_
          exact J_sub (A := [some (.ref 20), some (.int c1), some (.int c2), none, some (.int v2)]) ⟨rfl, ⟨rfl, ⟨rfl, ⟨rfl, trivial⟩⟩⟩⟩ (hj1 1 M3)

def x_changesLeft (p1 : Int32) (p2 : Int32) (M : PM) : Option (Int32 × PM) :=
    x_changesLeft_L5 p1 p2 FU 1 0 M

set_option maxHeartbeats 4000000 in
theorem t_x_changesLeft (G : JG) (p1 : Int32) (p2 : Int32) (M : PM) : T_x_changesLeft G  M 0 (ent [.ref 20, .int p1, .int p2] 5) [] (x_changesLeft p1 p2 M) := by
  unfold x_changesLeft
  refine J_iconst (pc := 0) 1 dX1_changesLeft_0 (by decide) ?_
  refine J_istore_n (pc := 1) dX1_changesLeft_1 (by decide) ?_
  refine J_iconst (pc := 2) 0 dX1_changesLeft_2 (by decide) ?_
  refine J_istore (pc := 3) dX1_changesLeft_3 (by decide) ?_
  refine J_sub (A := [some (.ref 20), some (.int p1), some (.int p2), some (.int 1), some (.int 0)]) ⟨rfl, ⟨rfl, ⟨rfl, ⟨rfl, ⟨rfl, trivial⟩⟩⟩⟩⟩ (t_x_changesLeft_L5 G p1 p2  FU 1 0 M)

theorem C_x_changesLeft (l : Launch) (p1 : Int32) (p2 : Int32) (M : PM) : Ctr l Sh yX1_changesLeft cX1_changesLeft 5 (some .boolean) 8 rvI [.ref 20, .int p1, .int p2] M (x_changesLeft p1 p2 M) := Ctr.of (by decide +kernel) (Nat.le_of_ble_eq_true rfl) (fun G => t_x_changesLeft G p1 p2 M)

abbrev T_x_isNothingLeft (G : JG) (M : PM) (pc : Nat) (L : List (Option Value)) (S : List Value) (o : Option (Int32 × PM)) : Prop := JJ G cX1_isNothingLeft yX1_isNothingLeft 3 1 (some .boolean) Sh (finR G Sh rvI) M pc L S o
def x_isNothingLeft_L4 : Nat → Int32 → Int32 → PM → Option (Int32 × PM)
  | 0, _, _, _ => none
  | n + 1, v1, v2, M1 =>
    if 5 ≤ v2 then (ckb (v1 = 0 ∨ v1 = 1) <|
    some (v1, M1))
    else (jn (fun (v3 : Int32) (M2 : PM) =>
    lt (v2 + 1) fun v4 =>
    x_isNothingLeft_L4 n v3 v4 M2) fun j1 =>
    if v1 = 0 then (j1 0 M1)
    else (ck v2 5 <|
    if (M1.i 66 (ix v2)) = 0 then (j1 1 M1)
    else (j1 0 M1)))

set_option maxHeartbeats 4000000 in
theorem t_x_isNothingLeft_L4 (G : JG) : ∀ (n : Nat) (v1 : Int32) (v2 : Int32) (M1 : PM), T_x_isNothingLeft G  M1 4 [some (.ref 20), some (.int v1), some (.int v2)] [] (x_isNothingLeft_L4 n v1 v2 M1) := by
  intro n
  induction n with
  | zero =>
    intro v1 v2 M1
    exact J_none
  | succ n ih =>
    intro v1 v2 M1
    rw [x_isNothingLeft_L4]
    refine J_iload_n (pc := 4) dX1_isNothingLeft_4 rfl ?_
    refine J_iconst (pc := 5) 5 dX1_isNothingLeft_5 (by decide) ?_
    refine J_icmp_ge (pc := 6) 34 dX1_isNothingLeft_6 rfl (fun h => if_pos h) (fun h => if_neg h) (fun _ => ?_) (fun _ => ?_)
    · refine J_iload_n (pc := 34) dX1_isNothingLeft_34 rfl ?_
      refine J_ckb (fun h1 => ?_)
      exact J_zret (pc := 35) (nz h1) dX1_isNothingLeft_35
    · refine J_iload_n (pc := 9) dX1_isNothingLeft_9 rfl ?_
      refine J_jn (P := fun J => ∀ (v3 : Int32) (M2 : PM), T_x_isNothingLeft G  M2 27 [some (.ref 20), none, some (.int v2)] [.int v3] (J v3 M2)) (fun v3 M2 => ?_) (fun j1 hj1 => ?_)
      · refine J_istore_n (pc := 27) dX1_isNothingLeft_27 (by decide) ?_
        refine J_iincL (pc := 28) (n := 1) (by decide) dX1_isNothingLeft_28 rfl (by decide) (fun v4 => ?_)
        refine J_goto (pc := 31) 4 dX1_isNothingLeft_31 rfl ?_
        exact J_sub (A := [some (.ref 20), some (.int v3), some (.int v4)]) ⟨rfl, ⟨rfl, ⟨rfl, trivial⟩⟩⟩ (ih v3 v4 M2)
      refine J_if_eq (pc := 10) 26 dX1_isNothingLeft_10 rfl (fun h => if_pos h) (fun h => if_neg h) (fun _ => ?_) (fun _ => ?_)
      · refine J_iconst (pc := 26) 0 dX1_isNothingLeft_26 (by decide) ?_
        exact J_sub (A := [some (.ref 20), none, some (.int v2)]) ⟨rfl, ⟨rfl, trivial⟩⟩ (hj1 0 M1)
      · refine J_aload_n (pc := 13) dX1_isNothingLeft_13 rfl ?_
        refine J_get (pc := 14) (c := 0) (.ref 66) rfl in_X1 58 (by decide) q242 rfl (fun h => sh_k1 h 0 rfl) (fun h _ => fv_ref (Or.inr ⟨_, rfl⟩) (sh_r h 45 rfl)) dX1_isNothingLeft_14 ?_
        refine J_iload_n (pc := 17) dX1_isNothingLeft_17 rfl ?_
        refine J_ck (fun h2 => ?_)
        refine J_iald (pc := 18) (a := 66) (fun h => sh_a h 46 rfl h2) dX1_isNothingLeft_18 ?_
        refine J_if_ne (pc := 19) 26 dX1_isNothingLeft_19 rfl (fun h => if_neg h) (fun h => if_pos h) (fun _ => ?_) (fun _ => ?_)
        · refine J_iconst (pc := 26) 0 dX1_isNothingLeft_26 (by decide) ?_
          exact J_sub (A := [some (.ref 20), none, some (.int v2)]) ⟨rfl, ⟨rfl, trivial⟩⟩ (hj1 0 M1)
        · refine J_iconst (pc := 22) 1 dX1_isNothingLeft_22 (by decide) ?_
          refine J_goto (pc := 23) 27 dX1_isNothingLeft_23 rfl ?_
          exact J_sub (A := [some (.ref 20), none, some (.int v2)]) ⟨rfl, ⟨rfl, trivial⟩⟩ (hj1 1 M1)

def x_isNothingLeft (M : PM) : Option (Int32 × PM) :=
    x_isNothingLeft_L4 FU 1 0 M

set_option maxHeartbeats 4000000 in
theorem t_x_isNothingLeft (G : JG) (M : PM) : T_x_isNothingLeft G  M 0 (ent [.ref 20] 3) [] (x_isNothingLeft M) := by
  unfold x_isNothingLeft
  refine J_iconst (pc := 0) 1 dX1_isNothingLeft_0 (by decide) ?_
  refine J_istore_n (pc := 1) dX1_isNothingLeft_1 (by decide) ?_
  refine J_iconst (pc := 2) 0 dX1_isNothingLeft_2 (by decide) ?_
  refine J_istore_n (pc := 3) dX1_isNothingLeft_3 (by decide) ?_
  refine J_sub (A := [some (.ref 20), some (.int 1), some (.int 0)]) ⟨rfl, ⟨rfl, ⟨rfl, trivial⟩⟩⟩ (t_x_isNothingLeft_L4 G   FU 1 0 M)

theorem C_x_isNothingLeft (l : Launch) (M : PM) : Ctr l Sh yX1_isNothingLeft cX1_isNothingLeft 3 (some .boolean) 1 rvI [.ref 20] M (x_isNothingLeft M) := Ctr.of (by decide +kernel) (Nat.le_of_ble_eq_true rfl) (fun G => t_x_isNothingLeft G M)

abbrev T_b_x_saysFrom (G : JG) (d : Nat) (M : PM) (pc : Nat) (L : List (Option Value)) (S : List Value) (o : Option (Unit × PM)) : Prop := JJ G cX1_saysFrom yX1_saysFrom 5 (d + 21) none Sh (finR G Sh rvU) M pc L S o
def b_x_saysFrom_L67 (c1 : Int32) (c2 : Int32) (f_saysFrom : Int32 → Int32 → Int32 → PM → Option (Unit × PM)) : Nat → Int32 → PM → Option (Unit × PM)
  | 0, _, _ => none
  | n + 1, v1, M1 =>
    if (M1.i 20 11) ≤ v1 then (some ((), M1))
    else (ck c1 4 <|
    lt (M1.si 67 (ix c1) v1) fun M2 =>
    bd (x_changesLeft v1 1 M2) fun v2 M3 =>
    jn (fun (M4 : PM) =>
    bd (x_changesLeft v1 (-1) M4) fun v3 M5 =>
    lt (v1 + 1) fun v4 =>
    b_x_saysFrom_L67 c1 c2 f_saysFrom n v4 M5) fun j1 =>
    if v2 = 0 then (j1 M3)
    else (bd (f_saysFrom (c1 + 1) c2 v1 M3) fun _ M6 =>
    j1 M6))

set_option maxHeartbeats 4000000 in
theorem t_b_x_saysFrom_L67 (G : JG) (d : Nat) (c1 : Int32) (c2 : Int32) (f_saysFrom : Int32 → Int32 → Int32 → PM → Option (Unit × PM)) (h_saysFrom : ∀ (b0 : Int32) (b1 : Int32) (b2 : Int32) (M : PM) (l : Launch), Ctr l Sh yX1_saysFrom cX1_saysFrom 5 none (d + 20) rvU [.ref 20, .int b0, .int b1, .int b2] M (f_saysFrom b0 b1 b2 M)) : ∀ (n : Nat) (v1 : Int32) (M1 : PM), T_b_x_saysFrom G d M1 67 [some (.ref 20), some (.int c1), some (.int c2), none, some (.int v1)] [] (b_x_saysFrom_L67 c1 c2 f_saysFrom n v1 M1) := by
  intro n
  induction n with
  | zero =>
    intro v1 M1
    exact J_none
  | succ n ih =>
    intro v1 M1
    rw [b_x_saysFrom_L67]
    refine J_iload (pc := 67) dX1_saysFrom_67 rfl ?_
    refine J_aload_n (pc := 69) dX1_saysFrom_69 rfl ?_
    refine J_get (pc := 70) (c := 0) (.int (M1.i 20 11)) rfl in_X1 11 (by decide) q188 rfl (fun h => sh_k1 h 0 rfl) (fun _ _ => rfl) dX1_saysFrom_70 ?_
    refine J_icmp_ge (pc := 73) 118 dX1_saysFrom_73 rfl (fun h => if_pos h) (fun h => if_neg h) (fun _ => ?_) (fun _ => ?_)
    · exact J_ret (pc := 118) dX1_saysFrom_118
    · refine J_aload_n (pc := 76) dX1_saysFrom_76 rfl ?_
      refine J_get (pc := 77) (c := 0) (.ref 67) rfl in_X1 59 (by decide) q243 rfl (fun h => sh_k1 h 0 rfl) (fun h _ => fv_ref (Or.inr ⟨_, rfl⟩) (sh_r h 46 rfl)) dX1_saysFrom_77 ?_
      refine J_iload_n (pc := 80) dX1_saysFrom_80 rfl ?_
      refine J_iload (pc := 81) dX1_saysFrom_81 rfl ?_
      refine J_ck (fun h1 => ?_)
      refine J_iast (pc := 83) (a := 67) (fun h => sh_a h 47 rfl h1) (fun h => Sh_si h) dX1_saysFrom_83 ?_
      refine J_ltM (fun M2 => ?_)
      refine J_aload_n (pc := 84) dX1_saysFrom_84 rfl ?_
      refine J_iload (pc := 85) dX1_saysFrom_85 rfl ?_
      refine J_iconst (pc := 87) 1 dX1_saysFrom_87 (by decide) ?_
      refine J_callV (pc := 88) (n := 2) (b := 20) (vs := [.int v1, .int 1]) (ci := 0) (fun l => C_x_changesLeft l v1 1 M2) (lw_V q952 q954 qs53 q116 q955) nmv_X1_changesLeft rfl (by omega) (by decide) rfl (fun h => sh_k1 h 0 rfl) rfl (Nat.le_of_ble_eq_true rfl) dX1_saysFrom_88 (fun v2 M3 => ?_)
      refine J_jn (P := fun J => ∀ (M4 : PM), T_b_x_saysFrom G d M4 104 [some (.ref 20), some (.int c1), some (.int c2), none, some (.int v1)] [] (J M4)) (fun M4 => ?_) (fun j1 hj1 => ?_)
      · refine J_aload_n (pc := 104) dX1_saysFrom_104 rfl ?_
        refine J_iload (pc := 105) dX1_saysFrom_105 rfl ?_
        refine J_iconst (pc := 107) (-1) dX1_saysFrom_107 (by decide) ?_
        refine J_callV (pc := 108) (n := 2) (b := 20) (vs := [.int v1, .int (-1)]) (ci := 0) (fun l => C_x_changesLeft l v1 (-1) M4) (lw_V q952 q954 qs53 q116 q955) nmv_X1_changesLeft rfl (by omega) (by decide) rfl (fun h => sh_k1 h 0 rfl) rfl (Nat.le_of_ble_eq_true rfl) dX1_saysFrom_108 (fun v3 M5 => ?_)
        refine J_pop (pc := 111) dX1_saysFrom_111 rfl ?_
        refine J_iincL (pc := 112) (n := 1) (by decide) dX1_saysFrom_112 rfl (by decide) (fun v4 => ?_)
        refine J_goto (pc := 115) 67 dX1_saysFrom_115 rfl ?_
        exact J_sub (A := [some (.ref 20), some (.int c1), some (.int c2), none, some (.int v4)]) ⟨rfl, ⟨rfl, ⟨rfl, ⟨rfl, trivial⟩⟩⟩⟩ (ih v4 M5)
      refine J_if_eq (pc := 91) 104 dX1_saysFrom_91 rfl (fun h => if_pos h) (fun h => if_neg h) (fun _ => ?_) (fun _ => ?_)
      · exact J_sub (A := [some (.ref 20), some (.int c1), some (.int c2), none, some (.int v1)]) ⟨rfl, ⟨rfl, ⟨rfl, ⟨rfl, trivial⟩⟩⟩⟩ (hj1 M3)
      · refine J_aload_n (pc := 94) dX1_saysFrom_94 rfl ?_
        refine J_iload_n (pc := 95) dX1_saysFrom_95 rfl ?_
        refine J_iconst (pc := 96) 1 dX1_saysFrom_96 (by decide) ?_
        refine J_iadd (pc := 97) dX1_saysFrom_97 ?_
        refine J_iload_n (pc := 98) dX1_saysFrom_98 rfl ?_
        refine J_iload (pc := 99) dX1_saysFrom_99 rfl ?_
        refine J_callV (pc := 101) (n := 3) (b := 20) (vs := [.int (c1 + 1), .int c2, .int v1]) (ci := 0) (fun l => h_saysFrom (c1 + 1) c2 v1 M3 l) (lw_V q944 q946 qs51 q116 q947) nmv_X1_saysFrom rfl (by omega) (by decide) rfl (fun h => sh_k1 h 0 rfl) rfl (Nat.le_of_ble_eq_true rfl) dX1_saysFrom_101 (fun _ M6 => ?_)
        exact J_sub (A := [some (.ref 20), some (.int c1), some (.int c2), none, some (.int v1)]) ⟨rfl, ⟨rfl, ⟨rfl, ⟨rfl, trivial⟩⟩⟩⟩ (hj1 M6)

def b_x_saysFrom (f_saysFrom : Int32 → Int32 → Int32 → PM → Option (Unit × PM)) (p1 : Int32) (p2 : Int32) (p3 : Int32) (M : PM) : Option (Unit × PM) :=
    if p1 = p2 then (bd (x_isNothingLeft M) fun v5 M7 =>
    if v5 = 0 then (some ((), M7))
    else (jn (fun (M8 : PM) =>
    lt (if (M8.i 20 61) = 0 then p2 else (M8.i 20 62) : Int32) fun v6 =>
    lt (M8.si 20 62 v6) fun M9 =>
    lt (M9.si 20 61 ((M9.i 20 61) + 1)) fun M10 =>
    some ((), M10)) fun j2 =>
    if (M7.i 20 61) = 0 then (ckc M7 67 0 68 0 4 <|
    lt (M7.ci 67 (ix 0) 68 (ix 0) (ix 4)) fun M11 =>
    j2 M11)
    else (j2 M7)))
    else (b_x_saysFrom_L67 p1 p2 f_saysFrom FU p3 M)

set_option maxHeartbeats 4000000 in
theorem t_b_x_saysFrom (G : JG) (d : Nat) (f_saysFrom : Int32 → Int32 → Int32 → PM → Option (Unit × PM)) (h_saysFrom : ∀ (b0 : Int32) (b1 : Int32) (b2 : Int32) (M : PM) (l : Launch), Ctr l Sh yX1_saysFrom cX1_saysFrom 5 none (d + 20) rvU [.ref 20, .int b0, .int b1, .int b2] M (f_saysFrom b0 b1 b2 M)) (p1 : Int32) (p2 : Int32) (p3 : Int32) (M : PM) : T_b_x_saysFrom G d M 0 (ent [.ref 20, .int p1, .int p2, .int p3] 5) [] (b_x_saysFrom f_saysFrom p1 p2 p3 M) := by
  unfold b_x_saysFrom
  refine J_iload_n (pc := 0) dX1_saysFrom_0 rfl ?_
  refine J_iload_n (pc := 1) dX1_saysFrom_1 rfl ?_
  refine J_icmp_ne (pc := 2) 64 dX1_saysFrom_2 rfl (fun h => if_neg h) (fun h => if_pos h) (fun _ => ?_) (fun _ => ?_)
  · refine J_iload_n (pc := 64) dX1_saysFrom_64 rfl ?_
    refine J_istore (pc := 65) dX1_saysFrom_65 (by decide) ?_
    refine J_sub (A := [some (.ref 20), some (.int p1), some (.int p2), none, some (.int p3)]) ⟨rfl, ⟨rfl, ⟨rfl, ⟨rfl, trivial⟩⟩⟩⟩ (t_b_x_saysFrom_L67 G d p1 p2 f_saysFrom  h_saysFrom FU p3 M)
  · refine J_aload_n (pc := 5) dX1_saysFrom_5 rfl ?_
    refine J_callV (pc := 6) (n := 0) (b := 20) (vs := []) (ci := 0) (fun l => C_x_isNothingLeft l  M) (lw_V q948 q950 qs52 q116 q951) nmv_X1_isNothingLeft rfl (by omega) (by decide) rfl (fun h => sh_k1 h 0 rfl) rfl (Nat.le_of_ble_eq_true rfl) dX1_saysFrom_6 (fun v5 M7 => ?_)
    refine J_if_ne (pc := 9) 13 dX1_saysFrom_9 rfl (fun h => if_neg h) (fun h => if_pos h) (fun _ => ?_) (fun _ => ?_)
    · refine J_aload_n (pc := 13) dX1_saysFrom_13 rfl ?_
      refine J_get (pc := 14) (c := 0) (.int (M7.i 20 61)) rfl in_X1 61 (by decide) q245 rfl (fun h => sh_k1 h 0 rfl) (fun _ _ => rfl) dX1_saysFrom_14 ?_
      refine J_jn (P := fun J => ∀ (M8 : PM), T_b_x_saysFrom G d M8 34 [some (.ref 20), none, some (.int p2), none, none] [] (J M8)) (fun M8 => ?_) (fun j2 hj2 => ?_)
      · refine J_aload_n (pc := 34) dX1_saysFrom_34 rfl ?_
        refine J_aload_n (pc := 35) dX1_saysFrom_35 rfl ?_
        refine J_get (pc := 36) (c := 0) (.int (M8.i 20 61)) rfl in_X1 61 (by decide) q245 rfl (fun h => sh_k1 h 0 rfl) (fun _ _ => rfl) dX1_saysFrom_36 ?_
        refine J_ltj (β := Int32) (P := fun J => ∀ v6 : Int32, T_b_x_saysFrom G d M8 50 [some (.ref 20), none, none, none, none] [.int v6, .ref 20] (J v6)) (fun v6 => ?_) (fun j3 hj3 => ?_)
        · refine J_put (pc := 50) (a := 20) (v := .int v6) (M' := M8.si 20 62 v6) (c := 0) rfl in_X1 tyX1_ok fnX1 62 (by decide) q246 rfl (Or.inl rfl) (fun h => sh_k1 h 0 rfl) (fun _ => rfl) (fun _ => rfl) ⟨⟨rfl, rfl⟩, rfl⟩ (fun _ hb => up2_same hb) (fun _ _ => rfl) (fun _ _ => rfl) (put_i (fun _ _ _ => rfl)) (fun h => Sh_si h) dX1_saysFrom_50 ?_
          refine J_ltM (fun M9 => ?_)
          refine J_aload_n (pc := 53) dX1_saysFrom_53 rfl ?_
          refine J_dup (pc := 54) dX1_saysFrom_54 rfl ?_
          refine J_get (pc := 55) (c := 0) (.int (M9.i 20 61)) rfl in_X1 61 (by decide) q245 rfl (fun h => sh_k1 h 0 rfl) (fun _ _ => rfl) dX1_saysFrom_55 ?_
          refine J_iconst (pc := 58) 1 dX1_saysFrom_58 (by decide) ?_
          refine J_iadd (pc := 59) dX1_saysFrom_59 ?_
          refine J_put (pc := 60) (a := 20) (v := .int ((M9.i 20 61) + 1)) (M' := M9.si 20 61 ((M9.i 20 61) + 1)) (c := 0) rfl in_X1 tyX1_ok fnX1 61 (by decide) q245 rfl (Or.inl rfl) (fun h => sh_k1 h 0 rfl) (fun _ => rfl) (fun _ => rfl) ⟨⟨rfl, rfl⟩, rfl⟩ (fun _ hb => up2_same hb) (fun _ _ => rfl) (fun _ _ => rfl) (put_i (fun _ _ _ => rfl)) (fun h => Sh_si h) dX1_saysFrom_60 ?_
          refine J_ltM (fun M10 => ?_)
          exact J_ret (pc := 63) dX1_saysFrom_63
        refine J_if_ne (pc := 39) 46 dX1_saysFrom_39 rfl (fun h => congrArg j3 (if_neg h)) (fun h => congrArg j3 (if_pos h)) (fun _ => ?_) (fun _ => ?_)
        · refine J_aload_n (pc := 46) dX1_saysFrom_46 rfl ?_
          refine J_get (pc := 47) (c := 0) (.int (M8.i 20 62)) rfl in_X1 62 (by decide) q246 rfl (fun h => sh_k1 h 0 rfl) (fun _ _ => rfl) dX1_saysFrom_47 ?_
          exact J_sub (A := [some (.ref 20), none, none, none, none]) ⟨rfl, trivial⟩ (hj3 (M8.i 20 62))
        · refine J_iload_n (pc := 42) dX1_saysFrom_42 rfl ?_
          refine J_goto (pc := 43) 50 dX1_saysFrom_43 rfl ?_
          exact J_sub (A := [some (.ref 20), none, none, none, none]) ⟨rfl, trivial⟩ (hj3 p2)
      refine J_if_ne (pc := 17) 34 dX1_saysFrom_17 rfl (fun h => if_neg h) (fun h => if_pos h) (fun _ => ?_) (fun _ => ?_)
      · exact J_sub (A := [some (.ref 20), none, some (.int p2), none, none]) ⟨rfl, ⟨rfl, trivial⟩⟩ (hj2 M7)
      · refine J_aload_n (pc := 20) dX1_saysFrom_20 rfl ?_
        refine J_get (pc := 21) (c := 0) (.ref 67) rfl in_X1 59 (by decide) q243 rfl (fun h => sh_k1 h 0 rfl) (fun h _ => fv_ref (Or.inr ⟨_, rfl⟩) (sh_r h 46 rfl)) dX1_saysFrom_21 ?_
        refine J_iconst (pc := 24) 0 dX1_saysFrom_24 (by decide) ?_
        refine J_aload_n (pc := 25) dX1_saysFrom_25 rfl ?_
        refine J_get (pc := 26) (c := 0) (.ref 68) rfl in_X1 60 (by decide) q244 rfl (fun h => sh_k1 h 0 rfl) (fun h _ => fv_ref (Or.inr ⟨_, rfl⟩) (sh_r h 47 rfl)) dX1_saysFrom_26 ?_
        refine J_iconst (pc := 29) 0 dX1_saysFrom_29 (by decide) ?_
        refine J_iconst (pc := 30) 4 dX1_saysFrom_30 (by decide) ?_
        refine J_ckc (fun h2 => ?_)
        refine J_copy (pc := 31) (by omega) q522 q524 q523 q125 h2 (Nat.le_of_ble_eq_true rfl) (fun h => Sh_ci h) dX1_saysFrom_31 ?_
        refine J_ltM (fun M11 => ?_)
        exact J_sub (A := [some (.ref 20), none, some (.int p2), none, none]) ⟨rfl, ⟨rfl, trivial⟩⟩ (hj2 M11)
    · exact J_ret (pc := 12) dX1_saysFrom_12

def G_x_saysFrom : Nat → (Int32 → Int32 → Int32 → PM → Option (Unit × PM))
  | 0 => (fun _ _ _ _ => none)
  | n + 1 => (b_x_saysFrom ((G_x_saysFrom n)))
theorem CG_x_saysFrom : ∀ d : Nat, (∀ (b0 : Int32) (b1 : Int32) (b2 : Int32) (M : PM) (l : Launch), Ctr l Sh yX1_saysFrom cX1_saysFrom 5 none (d + 20) rvU [.ref 20, .int b0, .int b1, .int b2] M ((G_x_saysFrom d) b0 b1 b2 M)) := by
  intro d
  induction d with
  | zero => exact fun _ _ _ _ _ r M1 h => (by cases h)
  | succ d ih =>
    have h0 := ih
    exact fun b0 b1 b2 M l => Ctr.of (by decide +kernel) (Nat.le_of_ble_eq_true rfl) (fun G => t_b_x_saysFrom G d _ h0 b0 b1 b2 M)
def x_saysFrom (b0 : Int32) (b1 : Int32) (b2 : Int32) (M : PM) : Option (Unit × PM) := (G_x_saysFrom 120) b0 b1 b2 M
theorem C_x_saysFrom (l : Launch) (b0 : Int32) (b1 : Int32) (b2 : Int32) (M : PM) : Ctr l Sh yX1_saysFrom cX1_saysFrom 5 none 140 rvU [.ref 20, .int b0, .int b1, .int b2] M (x_saysFrom b0 b1 b2 M) := CG_x_saysFrom 120 b0 b1 b2 M l
abbrev T_x_said (G : JG) (M : PM) (pc : Nat) (L : List (Option Value)) (S : List Value) (o : Option (Int32 × PM)) : Prop := JJ G cX1_said yX1_said 2 141 (some .int) Sh (finR G Sh rvI) M pc L S o
def x_said_L9 (k47 : PM → Option (Int32 × PM)) (k34 : PM → Option (Int32 × PM)) : Nat → Int32 → PM → Option (Int32 × PM)
  | 0, _, _ => none
  | n + 1, v2, M2 =>
    if 5 ≤ v2 then (k47 M2)
    else (bd (x_number 1 M2) fun v3 M3 =>
    ck v2 5 <|
    lt (M3.si 66 (ix v2) v3) fun M4 =>
    ck v2 5 <|
    if 0 ≤ (M4.i 66 (ix v2)) then (lt (v2 + 1) fun v4 =>
    x_said_L9 k47 k34 n v4 M4)
    else (k34 M4))

set_option maxHeartbeats 4000000 in
theorem t_x_said_L9 (G : JG) (k47 : PM → Option (Int32 × PM)) (k34 : PM → Option (Int32 × PM)) (hk47 : ∀ Me, T_x_said G  Me 47 [some (.ref 20), none] [] (k47 Me)) (hk34 : ∀ Me, T_x_said G  Me 34 [some (.ref 20), none] [] (k34 Me)) : ∀ (n : Nat) (v2 : Int32) (M2 : PM), T_x_said G  M2 9 [some (.ref 20), some (.int v2)] [] (x_said_L9 k47 k34 n v2 M2) := by
  intro n
  induction n with
  | zero =>
    intro v2 M2
    exact J_none
  | succ n ih =>
    intro v2 M2
    rw [x_said_L9]
    refine J_iload_n (pc := 9) dX1_said_9 rfl ?_
    refine J_iconst (pc := 10) 5 dX1_said_10 (by decide) ?_
    refine J_icmp_ge (pc := 11) 47 dX1_said_11 rfl (fun h => if_pos h) (fun h => if_neg h) (fun _ => ?_) (fun _ => ?_)
    · exact J_sub (A := [some (.ref 20), none]) ⟨rfl, trivial⟩ (hk47 M2)
    · refine J_aload_n (pc := 14) dX1_said_14 rfl ?_
      refine J_get (pc := 15) (c := 0) (.ref 66) rfl in_X1 58 (by decide) q242 rfl (fun h => sh_k1 h 0 rfl) (fun h _ => fv_ref (Or.inr ⟨_, rfl⟩) (sh_r h 45 rfl)) dX1_said_15 ?_
      refine J_iload_n (pc := 18) dX1_said_18 rfl ?_
      refine J_aload_n (pc := 19) dX1_said_19 rfl ?_
      refine J_iconst (pc := 20) 1 dX1_said_20 (by decide) ?_
      refine J_callV (pc := 21) (n := 1) (b := 20) (vs := [.int 1]) (ci := 0) (fun l => C_x_number l 1 M2) (lw_V q542 q544 qs10 q116 q545) nmv_X1_number rfl (by omega) (by decide) rfl (fun h => sh_k1 h 0 rfl) rfl (Nat.le_of_ble_eq_true rfl) dX1_said_21 (fun v3 M3 => ?_)
      refine J_ck (fun h1 => ?_)
      refine J_iast (pc := 24) (a := 66) (fun h => sh_a h 46 rfl h1) (fun h => Sh_si h) dX1_said_24 ?_
      refine J_ltM (fun M4 => ?_)
      refine J_aload_n (pc := 25) dX1_said_25 rfl ?_
      refine J_get (pc := 26) (c := 0) (.ref 66) rfl in_X1 58 (by decide) q242 rfl (fun h => sh_k1 h 0 rfl) (fun h _ => fv_ref (Or.inr ⟨_, rfl⟩) (sh_r h 45 rfl)) dX1_said_26 ?_
      refine J_iload_n (pc := 29) dX1_said_29 rfl ?_
      refine J_ck (fun h2 => ?_)
      refine J_iald (pc := 30) (a := 66) (fun h => sh_a h 46 rfl h2) dX1_said_30 ?_
      refine J_if_ge (pc := 31) 41 dX1_said_31 rfl (fun h => if_pos h) (fun h => if_neg h) (fun _ => ?_) (fun _ => ?_)
      · refine J_iincL (pc := 41) (n := 1) (by decide) dX1_said_41 rfl (by decide) (fun v4 => ?_)
        refine J_goto (pc := 44) 9 dX1_said_44 rfl ?_
        exact J_sub (A := [some (.ref 20), some (.int v4)]) ⟨rfl, ⟨rfl, trivial⟩⟩ (ih v4 M4)
      · exact J_sub (A := [some (.ref 20), none]) ⟨rfl, trivial⟩ (hk34 M4)

def x_said_L77 (k95 : PM → Option (Int32 × PM)) : Nat → Int32 → PM → Option (Int32 × PM)
  | 0, _, _ => none
  | n + 1, v5, M8 =>
    if 4 < v5 then (k95 M8)
    else (bd (x_saysFrom 0 v5 0 M8) fun _ M9 =>
    lt (v5 + 1) fun v6 =>
    x_said_L77 k95 n v6 M9)

set_option maxHeartbeats 4000000 in
theorem t_x_said_L77 (G : JG) (k95 : PM → Option (Int32 × PM)) (hk95 : ∀ Me, T_x_said G  Me 95 [some (.ref 20), none] [] (k95 Me)) : ∀ (n : Nat) (v5 : Int32) (M8 : PM), T_x_said G  M8 77 [some (.ref 20), some (.int v5)] [] (x_said_L77 k95 n v5 M8) := by
  intro n
  induction n with
  | zero =>
    intro v5 M8
    exact J_none
  | succ n ih =>
    intro v5 M8
    rw [x_said_L77]
    refine J_iload_n (pc := 77) dX1_said_77 rfl ?_
    refine J_iconst (pc := 78) 4 dX1_said_78 (by decide) ?_
    refine J_icmp_gt (pc := 79) 95 dX1_said_79 rfl (fun h => if_pos h) (fun h => if_neg h) (fun _ => ?_) (fun _ => ?_)
    · exact J_sub (A := [some (.ref 20), none]) ⟨rfl, trivial⟩ (hk95 M8)
    · refine J_aload_n (pc := 82) dX1_said_82 rfl ?_
      refine J_iconst (pc := 83) 0 dX1_said_83 (by decide) ?_
      refine J_iload_n (pc := 84) dX1_said_84 rfl ?_
      refine J_iconst (pc := 85) 0 dX1_said_85 (by decide) ?_
      refine J_callV (pc := 86) (n := 3) (b := 20) (vs := [.int 0, .int v5, .int 0]) (ci := 0) (fun l => C_x_saysFrom l 0 v5 0 M8) (lw_V q944 q946 qs51 q116 q947) nmv_X1_saysFrom rfl (by omega) (by decide) rfl (fun h => sh_k1 h 0 rfl) rfl (Nat.le_of_ble_eq_true rfl) dX1_said_86 (fun _ M9 => ?_)
      refine J_iincL (pc := 89) (n := 1) (by decide) dX1_said_89 rfl (by decide) (fun v6 => ?_)
      refine J_goto (pc := 92) 77 dX1_said_92 rfl ?_
      exact J_sub (A := [some (.ref 20), some (.int v6)]) ⟨rfl, ⟨rfl, trivial⟩⟩ (ih v6 M9)

def x_said_L102 (k127 : PM → Option (Int32 × PM)) : Nat → Int32 → PM → Option (Int32 × PM)
  | 0, _, _ => none
  | n + 1, v7, M12 =>
    if (M12.i 20 62) ≤ v7 then (k127 M12)
    else (ck v7 4 <|
    bd (x_tells (Int32.toInt64 (M12.i 68 (ix v7))) M12) fun _ M13 =>
    lt (v7 + 1) fun v8 =>
    x_said_L102 k127 n v8 M13)

set_option maxHeartbeats 4000000 in
theorem t_x_said_L102 (G : JG) (k127 : PM → Option (Int32 × PM)) (hk127 : ∀ Me, T_x_said G  Me 127 [some (.ref 20), none] [] (k127 Me)) : ∀ (n : Nat) (v7 : Int32) (M12 : PM), T_x_said G  M12 102 [some (.ref 20), some (.int v7)] [] (x_said_L102 k127 n v7 M12) := by
  intro n
  induction n with
  | zero =>
    intro v7 M12
    exact J_none
  | succ n ih =>
    intro v7 M12
    rw [x_said_L102]
    refine J_iload_n (pc := 102) dX1_said_102 rfl ?_
    refine J_aload_n (pc := 103) dX1_said_103 rfl ?_
    refine J_get (pc := 104) (c := 0) (.int (M12.i 20 62)) rfl in_X1 62 (by decide) q246 rfl (fun h => sh_k1 h 0 rfl) (fun _ _ => rfl) dX1_said_104 ?_
    refine J_icmp_ge (pc := 107) 127 dX1_said_107 rfl (fun h => if_pos h) (fun h => if_neg h) (fun _ => ?_) (fun _ => ?_)
    · exact J_sub (A := [some (.ref 20), none]) ⟨rfl, trivial⟩ (hk127 M12)
    · refine J_aload_n (pc := 110) dX1_said_110 rfl ?_
      refine J_aload_n (pc := 111) dX1_said_111 rfl ?_
      refine J_get (pc := 112) (c := 0) (.ref 68) rfl in_X1 60 (by decide) q244 rfl (fun h => sh_k1 h 0 rfl) (fun h _ => fv_ref (Or.inr ⟨_, rfl⟩) (sh_r h 47 rfl)) dX1_said_112 ?_
      refine J_iload_n (pc := 115) dX1_said_115 rfl ?_
      refine J_ck (fun h3 => ?_)
      refine J_iald (pc := 116) (a := 68) (fun h => sh_a h 48 rfl h3) dX1_said_116 ?_
      refine J_i2l (pc := 117) dX1_said_117 ?_
      refine J_callV (pc := 118) (n := 1) (b := 20) (vs := [.long (Int32.toInt64 (M12.i 68 (ix v7)))]) (ci := 0) (fun l => C_x_tells l (Int32.toInt64 (M12.i 68 (ix v7))) M12) (lw_V q708 q710 qs20 q116 q711) nmv_X1_tells rfl (by omega) (by decide) rfl (fun h => sh_k1 h 0 rfl) rfl (Nat.le_of_ble_eq_true rfl) dX1_said_118 (fun _ M13 => ?_)
      refine J_iincL (pc := 121) (n := 1) (by decide) dX1_said_121 rfl (by decide) (fun v8 => ?_)
      refine J_goto (pc := 124) 102 dX1_said_124 rfl ?_
      exact J_sub (A := [some (.ref 20), some (.int v8)]) ⟨rfl, ⟨rfl, trivial⟩⟩ (ih v8 M13)

def x_said (M : PM) : Option (Int32 × PM) :=
    bd (x_begins 80 M) fun v1 M1 =>
    x_said_L9 (fun (M5 : PM) =>
    if (M5.i 20 18) ≤ (M5.i 20 17) then (lt (M5.si 20 61 0) fun M6 =>
    lt (M6.si 20 62 0) fun M7 =>
    x_said_L77 (fun (M10 : PM) =>
    lt (M10.si 20 67 0) fun M11 =>
    x_said_L102 (fun (M14 : PM) =>
    some ((M14.i 20 61), M14)) FU 0 M11) FU 1 M7)
    else (some (((-1) - (M5.i 20 17)), M5))) (fun (M15 : PM) =>
    some (((-1) - (M15.i 20 17)), M15)) FU 0 M1

set_option maxHeartbeats 4000000 in
theorem t_x_said (G : JG) (M : PM) : T_x_said G  M 0 (ent [.ref 20] 2) [] (x_said M) := by
  unfold x_said
  refine J_aload_n (pc := 0) dX1_said_0 rfl ?_
  refine J_bipush (pc := 1) 80 dX1_said_1 (by decide) ?_
  refine J_callV (pc := 3) (n := 1) (b := 20) (vs := [.int 80]) (ci := 0) (fun l => C_x_begins l 80 M) (lw_V q405 q407 qs0 q116 q408) nmv_X1_begins rfl (by omega) (by decide) rfl (fun h => sh_k1 h 0 rfl) rfl (Nat.le_of_ble_eq_true rfl) dX1_said_3 (fun v1 M1 => ?_)
  refine J_pop (pc := 6) dX1_said_6 rfl ?_
  refine J_iconst (pc := 7) 0 dX1_said_7 (by decide) ?_
  refine J_istore_n (pc := 8) dX1_said_8 (by decide) ?_
  refine J_sub (A := [some (.ref 20), some (.int 0)]) ⟨rfl, ⟨rfl, trivial⟩⟩ (t_x_said_L9 G _ _ ?_ ?_ FU 0 M1)
  · intro M5
    refine J_aload_n (pc := 47) dX1_said_47 rfl ?_
    refine J_get (pc := 48) (c := 0) (.int (M5.i 20 17)) rfl in_X1 17 (by decide) q194 rfl (fun h => sh_k1 h 0 rfl) (fun _ _ => rfl) dX1_said_48 ?_
    refine J_aload_n (pc := 51) dX1_said_51 rfl ?_
    refine J_get (pc := 52) (c := 0) (.int (M5.i 20 18)) rfl in_X1 18 (by decide) q195 rfl (fun h => sh_k1 h 0 rfl) (fun _ _ => rfl) dX1_said_52 ?_
    refine J_icmp_ge (pc := 55) 65 dX1_said_55 rfl (fun h => if_pos h) (fun h => if_neg h) (fun _ => ?_) (fun _ => ?_)
    · refine J_aload_n (pc := 65) dX1_said_65 rfl ?_
      refine J_iconst (pc := 66) 0 dX1_said_66 (by decide) ?_
      refine J_put (pc := 67) (a := 20) (v := .int 0) (M' := M5.si 20 61 0) (c := 0) rfl in_X1 tyX1_ok fnX1 61 (by decide) q245 rfl (Or.inl rfl) (fun h => sh_k1 h 0 rfl) (fun _ => rfl) (fun _ => rfl) ⟨⟨rfl, rfl⟩, rfl⟩ (fun _ hb => up2_same hb) (fun _ _ => rfl) (fun _ _ => rfl) (put_i (fun _ _ _ => rfl)) (fun h => Sh_si h) dX1_said_67 ?_
      refine J_ltM (fun M6 => ?_)
      refine J_aload_n (pc := 70) dX1_said_70 rfl ?_
      refine J_iconst (pc := 71) 0 dX1_said_71 (by decide) ?_
      refine J_put (pc := 72) (a := 20) (v := .int 0) (M' := M6.si 20 62 0) (c := 0) rfl in_X1 tyX1_ok fnX1 62 (by decide) q246 rfl (Or.inl rfl) (fun h => sh_k1 h 0 rfl) (fun _ => rfl) (fun _ => rfl) ⟨⟨rfl, rfl⟩, rfl⟩ (fun _ hb => up2_same hb) (fun _ _ => rfl) (fun _ _ => rfl) (put_i (fun _ _ _ => rfl)) (fun h => Sh_si h) dX1_said_72 ?_
      refine J_ltM (fun M7 => ?_)
      refine J_iconst (pc := 75) 1 dX1_said_75 (by decide) ?_
      refine J_istore_n (pc := 76) dX1_said_76 (by decide) ?_
      refine J_sub (A := [some (.ref 20), some (.int 1)]) ⟨rfl, ⟨rfl, trivial⟩⟩ (t_x_said_L77 G _ ?_ FU 1 M7)
      · intro M10
        refine J_aload_n (pc := 95) dX1_said_95 rfl ?_
        refine J_iconst (pc := 96) 0 dX1_said_96 (by decide) ?_
        refine J_put (pc := 97) (a := 20) (v := .int 0) (M' := M10.si 20 67 0) (c := 0) rfl in_X1 tyX1_ok fnX1 67 (by decide) q251 rfl (Or.inl rfl) (fun h => sh_k1 h 0 rfl) (fun _ => rfl) (fun _ => rfl) ⟨⟨rfl, rfl⟩, rfl⟩ (fun _ hb => up2_same hb) (fun _ _ => rfl) (fun _ _ => rfl) (put_i (fun _ _ _ => rfl)) (fun h => Sh_si h) dX1_said_97 ?_
        refine J_ltM (fun M11 => ?_)
        refine J_iconst (pc := 100) 0 dX1_said_100 (by decide) ?_
        refine J_istore_n (pc := 101) dX1_said_101 (by decide) ?_
        refine J_sub (A := [some (.ref 20), some (.int 0)]) ⟨rfl, ⟨rfl, trivial⟩⟩ (t_x_said_L102 G _ ?_ FU 0 M11)
        · intro M14
          refine J_aload_n (pc := 127) dX1_said_127 rfl ?_
          refine J_get (pc := 128) (c := 0) (.int (M14.i 20 61)) rfl in_X1 61 (by decide) q245 rfl (fun h => sh_k1 h 0 rfl) (fun _ _ => rfl) dX1_said_128 ?_
          exact J_iret (pc := 131) dX1_said_131
    · refine J_iconst (pc := 58) (-1) dX1_said_58 (by decide) ?_
      refine J_aload_n (pc := 59) dX1_said_59 rfl ?_
      refine J_get (pc := 60) (c := 0) (.int (M5.i 20 17)) rfl in_X1 17 (by decide) q194 rfl (fun h => sh_k1 h 0 rfl) (fun _ _ => rfl) dX1_said_60 ?_
      refine J_isub (pc := 63) dX1_said_63 ?_
      exact J_iret (pc := 64) dX1_said_64
  · intro M15
    refine J_iconst (pc := 34) (-1) dX1_said_34 (by decide) ?_
    refine J_aload_n (pc := 35) dX1_said_35 rfl ?_
    refine J_get (pc := 36) (c := 0) (.int (M15.i 20 17)) rfl in_X1 17 (by decide) q194 rfl (fun h => sh_k1 h 0 rfl) (fun _ _ => rfl) dX1_said_36 ?_
    refine J_isub (pc := 39) dX1_said_39 ?_
    exact J_iret (pc := 40) dX1_said_40

theorem C_x_said (l : Launch) (M : PM) : Ctr l Sh yX1_said cX1_said 2 (some .int) 141 rvI [.ref 20] M (x_said M) := Ctr.of (by decide +kernel) (Nat.le_of_ble_eq_true rfl) (fun G => t_x_said G M)

abbrev T_x_leftBy (G : JG) (M : PM) (pc : Nat) (L : List (Option Value)) (S : List Value) (o : Option (Int32 × PM)) : Prop := JJ G cX1_leftBy yX1_leftBy 6 8 (some .int) Sh (finR G Sh rvI) M pc L S o
def x_leftBy_L16 (c1 : Int32) (c2 : Int32) (c3 : Int32) (k52 : Int32 → PM → Option (Int32 × PM)) : Nat → Int32 → Int32 → PM → Option (Int32 × PM)
  | 0, _, _, _ => none
  | n + 1, v3, v4, M2 =>
    if (M2.i 20 11) ≤ v4 then (k52 v3 M2)
    else (bd (x_vowelIn v4 c1 M2) fun v5 M3 =>
    lt (if v5 = c3 then 1 else 0 : Int32) fun v6 =>
    lt (v3 + v6) fun v7 =>
    lt (v4 + 1) fun v8 =>
    x_leftBy_L16 c1 c2 c3 k52 n v7 v8 M3)

set_option maxHeartbeats 4000000 in
theorem t_x_leftBy_L16 (G : JG) (c1 : Int32) (c2 : Int32) (c3 : Int32) (k52 : Int32 → PM → Option (Int32 × PM)) (hk52 : ∀ z4 Me, T_x_leftBy G  Me 52 [some (.ref 20), some (.int c1), some (.int c2), some (.int c3), some (.int z4), none] [] (k52 z4 Me)) : ∀ (n : Nat) (v3 : Int32) (v4 : Int32) (M2 : PM), T_x_leftBy G  M2 16 [some (.ref 20), some (.int c1), some (.int c2), some (.int c3), some (.int v3), some (.int v4)] [] (x_leftBy_L16 c1 c2 c3 k52 n v3 v4 M2) := by
  intro n
  induction n with
  | zero =>
    intro v3 v4 M2
    exact J_none
  | succ n ih =>
    intro v3 v4 M2
    rw [x_leftBy_L16]
    refine J_iload (pc := 16) dX1_leftBy_16 rfl ?_
    refine J_aload_n (pc := 18) dX1_leftBy_18 rfl ?_
    refine J_get (pc := 19) (c := 0) (.int (M2.i 20 11)) rfl in_X1 11 (by decide) q188 rfl (fun h => sh_k1 h 0 rfl) (fun _ _ => rfl) dX1_leftBy_19 ?_
    refine J_icmp_ge (pc := 22) 52 dX1_leftBy_22 rfl (fun h => if_pos h) (fun h => if_neg h) (fun _ => ?_) (fun _ => ?_)
    · exact J_sub (A := [some (.ref 20), some (.int c1), some (.int c2), some (.int c3), some (.int v3), none]) ⟨rfl, ⟨rfl, ⟨rfl, ⟨rfl, ⟨rfl, trivial⟩⟩⟩⟩⟩ (hk52 v3 M2)
    · refine J_iload (pc := 25) dX1_leftBy_25 rfl ?_
      refine J_aload_n (pc := 27) dX1_leftBy_27 rfl ?_
      refine J_iload (pc := 28) dX1_leftBy_28 rfl ?_
      refine J_iload_n (pc := 30) dX1_leftBy_30 rfl ?_
      refine J_callV (pc := 31) (n := 2) (b := 20) (vs := [.int v4, .int c1]) (ci := 0) (fun l => C_x_vowelIn l v4 c1 M2) (lw_V q956 q958 qs54 q116 q959) nmv_X1_vowelIn rfl (by omega) (by decide) rfl (fun h => sh_k1 h 0 rfl) rfl (Nat.le_of_ble_eq_true rfl) dX1_leftBy_31 (fun v5 M3 => ?_)
      refine J_iload_n (pc := 34) dX1_leftBy_34 rfl ?_
      refine J_ltj (β := Int32) (P := fun J => ∀ v6 : Int32, T_x_leftBy G M3 43 [some (.ref 20), some (.int c1), some (.int c2), some (.int c3), none, some (.int v4)] [.int v6, .int v3] (J v6)) (fun v6 => ?_) (fun j1 hj1 => ?_)
      · refine J_iadd (pc := 43) dX1_leftBy_43 ?_
        refine J_lt (β := Int32) (v := (v3 + v6)) (L := fun _ => _) (S := fun v7 => [.int v7]) (fun v7 => ?_)
        refine J_istore (pc := 44) dX1_leftBy_44 (by decide) ?_
        refine J_iincL (pc := 46) (n := 1) (by decide) dX1_leftBy_46 rfl (by decide) (fun v8 => ?_)
        refine J_goto (pc := 49) 16 dX1_leftBy_49 rfl ?_
        exact J_sub (A := [some (.ref 20), some (.int c1), some (.int c2), some (.int c3), some (.int v7), some (.int v8)]) ⟨rfl, ⟨rfl, ⟨rfl, ⟨rfl, ⟨rfl, ⟨rfl, trivial⟩⟩⟩⟩⟩⟩ (ih v7 v8 M3)
      refine J_icmp_ne (pc := 35) 42 dX1_leftBy_35 rfl (fun h => congrArg j1 (if_neg h)) (fun h => congrArg j1 (if_pos h)) (fun _ => ?_) (fun _ => ?_)
      · refine J_iconst (pc := 42) 0 dX1_leftBy_42 (by decide) ?_
        exact J_sub (A := [some (.ref 20), some (.int c1), some (.int c2), some (.int c3), none, some (.int v4)]) ⟨rfl, ⟨rfl, ⟨rfl, ⟨rfl, ⟨rfl, trivial⟩⟩⟩⟩⟩ (hj1 0)
      · refine J_iconst (pc := 38) 1 dX1_leftBy_38 (by decide) ?_
        refine J_goto (pc := 39) 43 dX1_leftBy_39 rfl ?_
        exact J_sub (A := [some (.ref 20), some (.int c1), some (.int c2), some (.int c3), none, some (.int v4)]) ⟨rfl, ⟨rfl, ⟨rfl, ⟨rfl, ⟨rfl, trivial⟩⟩⟩⟩⟩ (hj1 1)

def x_leftBy_L4 (c1 : Int32) : Nat → Int32 → Int32 → PM → Option (Int32 × PM)
  | 0, _, _, _ => none
  | n + 1, v1, v2, M1 =>
    if 6 < v2 then (some (v1, M1))
    else (x_leftBy_L16 c1 v1 v2 (fun (v9 : Int32) (M4 : PM) =>
    lt (imax v1 v9) fun v10 =>
    lt (v2 + 1) fun v11 =>
    x_leftBy_L4 c1 n v10 v11 M4) FU 0 0 M1)

set_option maxHeartbeats 4000000 in
theorem t_x_leftBy_L4 (G : JG) (c1 : Int32) : ∀ (n : Nat) (v1 : Int32) (v2 : Int32) (M1 : PM), T_x_leftBy G  M1 4 [some (.ref 20), some (.int c1), some (.int v1), some (.int v2), none, none] [] (x_leftBy_L4 c1 n v1 v2 M1) := by
  intro n
  induction n with
  | zero =>
    intro v1 v2 M1
    exact J_none
  | succ n ih =>
    intro v1 v2 M1
    rw [x_leftBy_L4]
    refine J_iload_n (pc := 4) dX1_leftBy_4 rfl ?_
    refine J_bipush (pc := 5) 6 dX1_leftBy_5 (by decide) ?_
    refine J_icmp_gt (pc := 7) 65 dX1_leftBy_7 rfl (fun h => if_pos h) (fun h => if_neg h) (fun _ => ?_) (fun _ => ?_)
    · refine J_iload_n (pc := 65) dX1_leftBy_65 rfl ?_
      exact J_iret (pc := 66) dX1_leftBy_66
    · refine J_iconst (pc := 10) 0 dX1_leftBy_10 (by decide) ?_
      refine J_istore (pc := 11) dX1_leftBy_11 (by decide) ?_
      refine J_iconst (pc := 13) 0 dX1_leftBy_13 (by decide) ?_
      refine J_istore (pc := 14) dX1_leftBy_14 (by decide) ?_
      refine J_sub (A := [some (.ref 20), some (.int c1), some (.int v1), some (.int v2), some (.int 0), some (.int 0)]) ⟨rfl, ⟨rfl, ⟨rfl, ⟨rfl, ⟨rfl, ⟨rfl, trivial⟩⟩⟩⟩⟩⟩ (t_x_leftBy_L16 G c1 v1 v2 _ ?_ FU 0 0 M1)
      · intro v9 M4
        refine J_iload_n (pc := 52) dX1_leftBy_52 rfl ?_
        refine J_iload (pc := 53) dX1_leftBy_53 rfl ?_
        refine J_max (pc := 55) (by omega) q564 q454 q119 q455 (Nat.le_of_ble_eq_true rfl) dX1_leftBy_55 ?_
        refine J_lt (β := Int32) (v := (imax v1 v9)) (L := fun _ => _) (S := fun v10 => [.int v10]) (fun v10 => ?_)
        refine J_istore_n (pc := 58) dX1_leftBy_58 (by decide) ?_
        refine J_iincL (pc := 59) (n := 1) (by decide) dX1_leftBy_59 rfl (by decide) (fun v11 => ?_)
        refine J_goto (pc := 62) 4 dX1_leftBy_62 rfl ?_
        exact J_sub (A := [some (.ref 20), some (.int c1), some (.int v10), some (.int v11), none, none]) ⟨rfl, ⟨rfl, ⟨rfl, ⟨rfl, trivial⟩⟩⟩⟩ (ih v10 v11 M4)

def x_leftBy (p1 : Int32) (M : PM) : Option (Int32 × PM) :=
    x_leftBy_L4 p1 FU 0 0 M

set_option maxHeartbeats 4000000 in
theorem t_x_leftBy (G : JG) (p1 : Int32) (M : PM) : T_x_leftBy G  M 0 (ent [.ref 20, .int p1] 6) [] (x_leftBy p1 M) := by
  unfold x_leftBy
  refine J_iconst (pc := 0) 0 dX1_leftBy_0 (by decide) ?_
  refine J_istore_n (pc := 1) dX1_leftBy_1 (by decide) ?_
  refine J_iconst (pc := 2) 0 dX1_leftBy_2 (by decide) ?_
  refine J_istore_n (pc := 3) dX1_leftBy_3 (by decide) ?_
  refine J_sub (A := [some (.ref 20), some (.int p1), some (.int 0), some (.int 0), none, none]) ⟨rfl, ⟨rfl, ⟨rfl, ⟨rfl, trivial⟩⟩⟩⟩ (t_x_leftBy_L4 G p1  FU 0 0 M)

theorem C_x_leftBy (l : Launch) (p1 : Int32) (M : PM) : Ctr l Sh yX1_leftBy cX1_leftBy 6 (some .int) 8 rvI [.ref 20, .int p1] M (x_leftBy p1 M) := Ctr.of (by decide +kernel) (Nat.le_of_ble_eq_true rfl) (fun G => t_x_leftBy G p1 M)

abbrev T_x_ask (G : JG) (M : PM) (pc : Nat) (L : List (Option Value)) (S : List Value) (o : Option (Int32 × PM)) : Prop := JJ G cX1_ask yX1_ask 3 9 (some .int) Sh (finR G Sh rvI) M pc L S o
def x_ask_L14 (k44 : Int32 → PM → Option (Int32 × PM)) : Nat → Int32 → Int32 → PM → Option (Int32 × PM)
  | 0, _, _, _ => none
  | n + 1, v1, v2, M1 =>
    if 5 ≤ v2 then (k44 v1 M1)
    else (bd (x_leftBy v2 M1) fun v3 M2 =>
    bd (x_leftBy v1 M2) fun v4 M3 =>
    lt (if v4 ≤ v3 then v1 else v2 : Int32) fun v5 =>
    lt (v2 + 1) fun v6 =>
    x_ask_L14 k44 n v5 v6 M3)

set_option maxHeartbeats 4000000 in
theorem t_x_ask_L14 (G : JG) (k44 : Int32 → PM → Option (Int32 × PM)) (hk44 : ∀ z1 Me, T_x_ask G  Me 44 [some (.ref 20), some (.int z1), none] [] (k44 z1 Me)) : ∀ (n : Nat) (v1 : Int32) (v2 : Int32) (M1 : PM), T_x_ask G  M1 14 [some (.ref 20), some (.int v1), some (.int v2)] [] (x_ask_L14 k44 n v1 v2 M1) := by
  intro n
  induction n with
  | zero =>
    intro v1 v2 M1
    exact J_none
  | succ n ih =>
    intro v1 v2 M1
    rw [x_ask_L14]
    refine J_iload_n (pc := 14) dX1_ask_14 rfl ?_
    refine J_iconst (pc := 15) 5 dX1_ask_15 (by decide) ?_
    refine J_icmp_ge (pc := 16) 44 dX1_ask_16 rfl (fun h => if_pos h) (fun h => if_neg h) (fun _ => ?_) (fun _ => ?_)
    · exact J_sub (A := [some (.ref 20), some (.int v1), none]) ⟨rfl, ⟨rfl, trivial⟩⟩ (hk44 v1 M1)
    · refine J_aload_n (pc := 19) dX1_ask_19 rfl ?_
      refine J_iload_n (pc := 20) dX1_ask_20 rfl ?_
      refine J_callV (pc := 21) (n := 1) (b := 20) (vs := [.int v2]) (ci := 0) (fun l => C_x_leftBy l v2 M1) (lw_V q964 q966 qs55 q116 q967) nmv_X1_leftBy rfl (by omega) (by decide) rfl (fun h => sh_k1 h 0 rfl) rfl (Nat.le_of_ble_eq_true rfl) dX1_ask_21 (fun v3 M2 => ?_)
      refine J_aload_n (pc := 24) dX1_ask_24 rfl ?_
      refine J_iload_n (pc := 25) dX1_ask_25 rfl ?_
      refine J_callV (pc := 26) (n := 1) (b := 20) (vs := [.int v1]) (ci := 0) (fun l => C_x_leftBy l v1 M2) (lw_V q964 q966 qs55 q116 q967) nmv_X1_leftBy rfl (by omega) (by decide) rfl (fun h => sh_k1 h 0 rfl) rfl (Nat.le_of_ble_eq_true rfl) dX1_ask_26 (fun v4 M3 => ?_)
      refine J_ltj (β := Int32) (P := fun J => ∀ v5 : Int32, T_x_ask G M3 37 [some (.ref 20), none, some (.int v2)] [.int v5] (J v5)) (fun v5 => ?_) (fun j1 hj1 => ?_)
      · refine J_istore_n (pc := 37) dX1_ask_37 (by decide) ?_
        refine J_iincL (pc := 38) (n := 1) (by decide) dX1_ask_38 rfl (by decide) (fun v6 => ?_)
        refine J_goto (pc := 41) 14 dX1_ask_41 rfl ?_
        exact J_sub (A := [some (.ref 20), some (.int v5), some (.int v6)]) ⟨rfl, ⟨rfl, ⟨rfl, trivial⟩⟩⟩ (ih v5 v6 M3)
      refine J_icmp_ge (pc := 29) 36 dX1_ask_29 rfl (fun h => congrArg j1 (if_pos h)) (fun h => congrArg j1 (if_neg h)) (fun _ => ?_) (fun _ => ?_)
      · refine J_iload_n (pc := 36) dX1_ask_36 rfl ?_
        exact J_sub (A := [some (.ref 20), none, some (.int v2)]) ⟨rfl, ⟨rfl, trivial⟩⟩ (hj1 v1)
      · refine J_iload_n (pc := 32) dX1_ask_32 rfl ?_
        refine J_goto (pc := 33) 37 dX1_ask_33 rfl ?_
        exact J_sub (A := [some (.ref 20), none, some (.int v2)]) ⟨rfl, ⟨rfl, trivial⟩⟩ (hj1 v2)

def x_ask (M : PM) : Option (Int32 × PM) :=
    if (M.i 20 11) = 0 then (some ((-2), M))
    else (x_ask_L14 (fun (v7 : Int32) (M4 : PM) =>
    lt (M4.si 20 67 0) fun M5 =>
    bd (x_leftBy v7 M5) fun v8 M6 =>
    bd (x_tells (Int32.toInt64 v8) M6) fun _ M7 =>
    some (v7, M7)) FU 0 1 M)

set_option maxHeartbeats 4000000 in
theorem t_x_ask (G : JG) (M : PM) : T_x_ask G  M 0 (ent [.ref 20] 3) [] (x_ask M) := by
  unfold x_ask
  refine J_aload_n (pc := 0) dX1_ask_0 rfl ?_
  refine J_get (pc := 1) (c := 0) (.int (M.i 20 11)) rfl in_X1 11 (by decide) q188 rfl (fun h => sh_k1 h 0 rfl) (fun _ _ => rfl) dX1_ask_1 ?_
  refine J_if_ne (pc := 4) 10 dX1_ask_4 rfl (fun h => if_neg h) (fun h => if_pos h) (fun _ => ?_) (fun _ => ?_)
  · refine J_iconst (pc := 10) 0 dX1_ask_10 (by decide) ?_
    refine J_istore_n (pc := 11) dX1_ask_11 (by decide) ?_
    refine J_iconst (pc := 12) 1 dX1_ask_12 (by decide) ?_
    refine J_istore_n (pc := 13) dX1_ask_13 (by decide) ?_
    refine J_sub (A := [some (.ref 20), some (.int 0), some (.int 1)]) ⟨rfl, ⟨rfl, ⟨rfl, trivial⟩⟩⟩ (t_x_ask_L14 G _ ?_ FU 0 1 M)
    · intro v7 M4
      refine J_aload_n (pc := 44) dX1_ask_44 rfl ?_
      refine J_iconst (pc := 45) 0 dX1_ask_45 (by decide) ?_
      refine J_put (pc := 46) (a := 20) (v := .int 0) (M' := M4.si 20 67 0) (c := 0) rfl in_X1 tyX1_ok fnX1 67 (by decide) q251 rfl (Or.inl rfl) (fun h => sh_k1 h 0 rfl) (fun _ => rfl) (fun _ => rfl) ⟨⟨rfl, rfl⟩, rfl⟩ (fun _ hb => up2_same hb) (fun _ _ => rfl) (fun _ _ => rfl) (put_i (fun _ _ _ => rfl)) (fun h => Sh_si h) dX1_ask_46 ?_
      refine J_ltM (fun M5 => ?_)
      refine J_aload_n (pc := 49) dX1_ask_49 rfl ?_
      refine J_aload_n (pc := 50) dX1_ask_50 rfl ?_
      refine J_iload_n (pc := 51) dX1_ask_51 rfl ?_
      refine J_callV (pc := 52) (n := 1) (b := 20) (vs := [.int v7]) (ci := 0) (fun l => C_x_leftBy l v7 M5) (lw_V q964 q966 qs55 q116 q967) nmv_X1_leftBy rfl (by omega) (by decide) rfl (fun h => sh_k1 h 0 rfl) rfl (Nat.le_of_ble_eq_true rfl) dX1_ask_52 (fun v8 M6 => ?_)
      refine J_i2l (pc := 55) dX1_ask_55 ?_
      refine J_callV (pc := 56) (n := 1) (b := 20) (vs := [.long (Int32.toInt64 v8)]) (ci := 0) (fun l => C_x_tells l (Int32.toInt64 v8) M6) (lw_V q708 q710 qs20 q116 q711) nmv_X1_tells rfl (by omega) (by decide) rfl (fun h => sh_k1 h 0 rfl) rfl (Nat.le_of_ble_eq_true rfl) dX1_ask_56 (fun _ M7 => ?_)
      refine J_iload_n (pc := 59) dX1_ask_59 rfl ?_
      exact J_iret (pc := 60) dX1_ask_60
  · refine J_bipush (pc := 7) (-2) dX1_ask_7 (by decide) ?_
    exact J_iret (pc := 9) dX1_ask_9

theorem C_x_ask (l : Launch) (M : PM) : Ctr l Sh yX1_ask cX1_ask 3 (some .int) 9 rvI [.ref 20] M (x_ask M) := Ctr.of (by decide +kernel) (Nat.le_of_ble_eq_true rfl) (fun G => t_x_ask G M)

abbrev T_x_draws (G : JG) (M : PM) (pc : Nat) (L : List (Option Value)) (S : List Value) (o : Option (Int32 × PM)) : Prop := JJ G cX1_draws yX1_draws 2 1 (some .int) Sh (finR G Sh rvI) M pc L S o
def x_draws (p1 : Int32) (M : PM) : Option (Int32 × PM) :=
    lt (M.si 20 63 (((M.i 20 63) * 1103515245) + 12345)) fun M1 =>
    ckb (¬ (p1 : Int32) = 0) <|
    some ((((Int32.toUInt32 (M1.i 20 63) >>> (Int32.toUInt32 16 &&& Int32.toUInt32 31)).toInt32) - ((Int32.toUInt32 (M1.i 20 63) >>> (Int32.toUInt32 16 &&& Int32.toUInt32 31)).toInt32) / p1 * p1), M1)

set_option maxHeartbeats 4000000 in
theorem t_x_draws (G : JG) (p1 : Int32) (M : PM) : T_x_draws G  M 0 (ent [.ref 20, .int p1] 2) [] (x_draws p1 M) := by
  unfold x_draws
  refine J_aload_n (pc := 0) dX1_draws_0 rfl ?_
  refine J_aload_n (pc := 1) dX1_draws_1 rfl ?_
  refine J_get (pc := 2) (c := 0) (.int (M.i 20 63)) rfl in_X1 63 (by decide) q247 rfl (fun h => sh_k1 h 0 rfl) (fun _ _ => rfl) dX1_draws_2 ?_
  refine J_ldcw (pc := 5) 1103515245 q977 dX1_draws_5 ?_
  refine J_imul (pc := 8) dX1_draws_8 ?_
  refine J_sipush (pc := 9) 12345 dX1_draws_9 (by decide) ?_
  refine J_iadd (pc := 12) dX1_draws_12 ?_
  refine J_put (pc := 13) (a := 20) (v := .int (((M.i 20 63) * 1103515245) + 12345)) (M' := M.si 20 63 (((M.i 20 63) * 1103515245) + 12345)) (c := 0) rfl in_X1 tyX1_ok fnX1 63 (by decide) q247 rfl (Or.inl rfl) (fun h => sh_k1 h 0 rfl) (fun _ => rfl) (fun _ => rfl) ⟨⟨rfl, rfl⟩, rfl⟩ (fun _ hb => up2_same hb) (fun _ _ => rfl) (fun _ _ => rfl) (put_i (fun _ _ _ => rfl)) (fun h => Sh_si h) dX1_draws_13 ?_
  refine J_ltM (fun M1 => ?_)
  refine J_aload_n (pc := 16) dX1_draws_16 rfl ?_
  refine J_get (pc := 17) (c := 0) (.int (M1.i 20 63)) rfl in_X1 63 (by decide) q247 rfl (fun h => sh_k1 h 0 rfl) (fun _ _ => rfl) dX1_draws_17 ?_
  refine J_bipush (pc := 20) 16 dX1_draws_20 (by decide) ?_
  refine J_iushr (pc := 22) dX1_draws_22 ?_
  refine J_iload_n (pc := 23) dX1_draws_23 rfl ?_
  refine J_ckb (fun h1 => ?_)
  refine J_irem (pc := 24) dX1_draws_24 h1 ?_
  exact J_iret (pc := 25) dX1_draws_25

theorem C_x_draws (l : Launch) (p1 : Int32) (M : PM) : Ctr l Sh yX1_draws cX1_draws 2 (some .int) 1 rvI [.ref 20, .int p1] M (x_draws p1 M) := Ctr.of (by decide +kernel) (Nat.le_of_ble_eq_true rfl) (fun G => t_x_draws G p1 M)

abbrev T_x_years (G : JG) (M : PM) (pc : Nat) (L : List (Option Value)) (S : List Value) (o : Option (Int32 × PM)) : Prop := JJ G cX1_years yX1_years 10 143 (some .int) Sh (finR G Sh rvI) M pc L S o
def x_years_L55 (c2 : Int32) (k181 : Int32 → Int32 → PM → Option (Int32 × PM)) : Nat → Int32 → Int32 → Int32 → PM → Option (Int32 × PM)
  | 0, _, _, _, _ => none
  | n + 1, v2, v3, v4, M4 =>
    if c2 ≤ v4 then (k181 v2 v3 M4)
    else (lt (M4.i 26 4) fun v5 =>
    bd (x_draws (M4.i 20 12) M4) fun v6 M5 =>
    bd (x_draws 4 M5) fun v7 M6 =>
    jn (fun (v8 : Int32) (M7 : PM) =>
    lt (if 0 ≤ v8 then 0 else 1 : Int32) fun v9 =>
    lt (v3 + v9) fun v10 =>
    jn (fun (v11 : Int32) (M8 : PM) =>
    lt (v2 + v11) fun v12 =>
    lt (M8.si 26 4 (v5 + 1)) fun M9 =>
    lt (v4 + 1) fun v13 =>
    x_years_L55 c2 k181 n v12 v10 v13 M9) fun j3 =>
    if 2 ≤ v7 then (j3 (imax 0 v8) M7)
    else (j3 0 M7)) fun j1 =>
    if 2 ≤ v7 then (bd (x_draws (M6.i 20 11) M6) fun v14 M10 =>
    bd (x_says 26 v6 v14 M10) fun v15 M11 =>
    j1 v15 M11)
    else (bd (x_walks 26 v6 (1 - v7) M6) fun v16 M12 =>
    j1 v16 M12))

set_option maxHeartbeats 4000000 in
theorem t_x_years_L55 (G : JG) (c2 : Int32) (k181 : Int32 → Int32 → PM → Option (Int32 × PM)) (hk181 : ∀ z3 z4 Me, T_x_years G  Me 181 [some (.ref 20), none, none, some (.int z3), some (.int z4), none, none, none, none, none] [] (k181 z3 z4 Me)) : ∀ (n : Nat) (v2 : Int32) (v3 : Int32) (v4 : Int32) (M4 : PM), T_x_years G  M4 55 [some (.ref 20), none, some (.int c2), some (.int v2), some (.int v3), some (.int v4), none, none, none, none] [] (x_years_L55 c2 k181 n v2 v3 v4 M4) := by
  intro n
  induction n with
  | zero =>
    intro v2 v3 v4 M4
    exact J_none
  | succ n ih =>
    intro v2 v3 v4 M4
    rw [x_years_L55]
    refine J_iload (pc := 55) dX1_years_55 rfl ?_
    refine J_iload_n (pc := 57) dX1_years_57 rfl ?_
    refine J_icmp_ge (pc := 58) 181 dX1_years_58 rfl (fun h => if_pos h) (fun h => if_neg h) (fun _ => ?_) (fun _ => ?_)
    · exact J_sub (A := [some (.ref 20), none, none, some (.int v2), some (.int v3), none, none, none, none, none]) ⟨rfl, ⟨rfl, ⟨rfl, trivial⟩⟩⟩ (hk181 v2 v3 M4)
    · refine J_aload_n (pc := 61) dX1_years_61 rfl ?_
      refine J_get (pc := 62) (c := 0) (.ref 26) rfl in_X1 1 (by decide) q178 rfl (fun h => sh_k1 h 0 rfl) (fun h _ => fv_ref (Or.inl ⟨_, rfl⟩) (sh_r h 9 rfl)) dX1_years_62 ?_
      refine J_getN (host := "TollOnVowels") (pc := 65) (c := 1) (.int (M4.i 26 4)) rfl in_X2 4 (by decide) (by decide +kernel) rfl (fun h => sh_k1 h 6 rfl) (fun _ _ => rfl) dX1_years_65 ?_
      refine J_lt (β := Int32) (v := (M4.i 26 4)) (L := fun _ => _) (S := fun v5 => [.int v5]) (fun v5 => ?_)
      refine J_istore (pc := 68) dX1_years_68 (by decide) ?_
      refine J_aload_n (pc := 70) dX1_years_70 rfl ?_
      refine J_aload_n (pc := 71) dX1_years_71 rfl ?_
      refine J_get (pc := 72) (c := 0) (.int (M4.i 20 12)) rfl in_X1 12 (by decide) q189 rfl (fun h => sh_k1 h 0 rfl) (fun _ _ => rfl) dX1_years_72 ?_
      refine J_callV (pc := 75) (n := 1) (b := 20) (vs := [.int (M4.i 20 12)]) (ci := 0) (fun l => C_x_draws l (M4.i 20 12) M4) (lw_V q973 q975 qs56 q116 q976) nmv_X1_draws rfl (by omega) (by decide) rfl (fun h => sh_k1 h 0 rfl) rfl (Nat.le_of_ble_eq_true rfl) dX1_years_75 (fun v6 M5 => ?_)
      refine J_istore (pc := 78) dX1_years_78 (by decide) ?_
      refine J_aload_n (pc := 80) dX1_years_80 rfl ?_
      refine J_iconst (pc := 81) 4 dX1_years_81 (by decide) ?_
      refine J_callV (pc := 82) (n := 1) (b := 20) (vs := [.int 4]) (ci := 0) (fun l => C_x_draws l 4 M5) (lw_V q973 q975 qs56 q116 q976) nmv_X1_draws rfl (by omega) (by decide) rfl (fun h => sh_k1 h 0 rfl) rfl (Nat.le_of_ble_eq_true rfl) dX1_years_82 (fun v7 M6 => ?_)
      refine J_istore (pc := 85) dX1_years_85 (by decide) ?_
      refine J_iload (pc := 87) dX1_years_87 rfl ?_
      refine J_iconst (pc := 89) 2 dX1_years_89 (by decide) ?_
      refine J_jn (P := fun J => ∀ (v8 : Int32) (M7 : PM), T_x_years G  M7 128 [some (.ref 20), none, some (.int c2), some (.int v2), some (.int v3), some (.int v4), some (.int v5), none, some (.int v7), none] [.int v8] (J v8 M7)) (fun v8 M7 => ?_) (fun j1 hj1 => ?_)
      · refine J_istore (pc := 128) dX1_years_128 (by decide) ?_
        refine J_iload (pc := 130) dX1_years_130 rfl ?_
        refine J_iload (pc := 132) dX1_years_132 rfl ?_
        refine J_ltj (β := Int32) (P := fun J => ∀ v9 : Int32, T_x_years G M7 142 [some (.ref 20), none, some (.int c2), some (.int v2), none, some (.int v4), some (.int v5), none, some (.int v7), some (.int v8)] [.int v9, .int v3] (J v9)) (fun v9 => ?_) (fun j2 hj2 => ?_)
        · refine J_iadd (pc := 142) dX1_years_142 ?_
          refine J_lt (β := Int32) (v := (v3 + v9)) (L := fun _ => _) (S := fun v10 => [.int v10]) (fun v10 => ?_)
          refine J_istore (pc := 143) dX1_years_143 (by decide) ?_
          refine J_iload_n (pc := 145) dX1_years_145 rfl ?_
          refine J_iload (pc := 146) dX1_years_146 rfl ?_
          refine J_iconst (pc := 148) 2 dX1_years_148 (by decide) ?_
          refine J_jn (P := fun J => ∀ (v11 : Int32) (M8 : PM), T_x_years G  M8 162 [some (.ref 20), none, some (.int c2), none, some (.int v10), some (.int v4), some (.int v5), none, none, none] [.int v11, .int v2] (J v11 M8)) (fun v11 M8 => ?_) (fun j3 hj3 => ?_)
          · refine J_iadd (pc := 162) dX1_years_162 ?_
            refine J_lt (β := Int32) (v := (v2 + v11)) (L := fun _ => _) (S := fun v12 => [.int v12]) (fun v12 => ?_)
            refine J_istore_n (pc := 163) dX1_years_163 (by decide) ?_
            refine J_aload_n (pc := 164) dX1_years_164 rfl ?_
            refine J_get (pc := 165) (c := 0) (.ref 26) rfl in_X1 1 (by decide) q178 rfl (fun h => sh_k1 h 0 rfl) (fun h _ => fv_ref (Or.inl ⟨_, rfl⟩) (sh_r h 9 rfl)) dX1_years_165 ?_
            refine J_iload (pc := 168) dX1_years_168 rfl ?_
            refine J_iconst (pc := 170) 1 dX1_years_170 (by decide) ?_
            refine J_iadd (pc := 171) dX1_years_171 ?_
            refine J_putN (host := "TollOnVowels") (pc := 172) (a := 26) (v := .int (v5 + 1)) (M' := M8.si 26 4 (v5 + 1)) (c := 1) rfl in_X2 tyX2_ok fnX2 4 (by decide) (by decide +kernel) rfl rfl (fun h => sh_k1 h 6 rfl) (fun _ => rfl) (fun _ => rfl) ⟨⟨rfl, rfl⟩, rfl⟩ (fun _ hb => up2_same hb) (fun _ _ => rfl) (fun _ _ => rfl) (put_i (fun _ _ _ => rfl)) (fun h => Sh_si h) dX1_years_172 ?_
            refine J_ltM (fun M9 => ?_)
            refine J_iincL (pc := 175) (n := 1) (by decide) dX1_years_175 rfl (by decide) (fun v13 => ?_)
            refine J_goto (pc := 178) 55 dX1_years_178 rfl ?_
            exact J_sub (A := [some (.ref 20), none, some (.int c2), some (.int v12), some (.int v10), some (.int v13), none, none, none, none]) ⟨rfl, ⟨rfl, ⟨rfl, ⟨rfl, ⟨rfl, trivial⟩⟩⟩⟩⟩ (ih v12 v10 v13 M9)
          refine J_icmp_ge (pc := 149) 156 dX1_years_149 rfl (fun h => if_pos h) (fun h => if_neg h) (fun _ => ?_) (fun _ => ?_)
          · refine J_iconst (pc := 156) 0 dX1_years_156 (by decide) ?_
            refine J_iload (pc := 157) dX1_years_157 rfl ?_
            refine J_max (pc := 159) (by omega) q564 q454 q119 q455 (Nat.le_of_ble_eq_true rfl) dX1_years_159 ?_
            exact J_sub (A := [some (.ref 20), none, some (.int c2), none, some (.int v10), some (.int v4), some (.int v5), none, none, none]) ⟨rfl, ⟨rfl, ⟨rfl, ⟨rfl, ⟨rfl, trivial⟩⟩⟩⟩⟩ (hj3 (imax 0 v8) M7)
          · refine J_iconst (pc := 152) 0 dX1_years_152 (by decide) ?_
            refine J_goto (pc := 153) 162 dX1_years_153 rfl ?_
            exact J_sub (A := [some (.ref 20), none, some (.int c2), none, some (.int v10), some (.int v4), some (.int v5), none, none, none]) ⟨rfl, ⟨rfl, ⟨rfl, ⟨rfl, ⟨rfl, trivial⟩⟩⟩⟩⟩ (hj3 0 M7)
        refine J_if_ge (pc := 134) 141 dX1_years_134 rfl (fun h => congrArg j2 (if_pos h)) (fun h => congrArg j2 (if_neg h)) (fun _ => ?_) (fun _ => ?_)
        · refine J_iconst (pc := 141) 0 dX1_years_141 (by decide) ?_
          exact J_sub (A := [some (.ref 20), none, some (.int c2), some (.int v2), none, some (.int v4), some (.int v5), none, some (.int v7), some (.int v8)]) ⟨rfl, ⟨rfl, ⟨rfl, ⟨rfl, ⟨rfl, ⟨rfl, ⟨rfl, trivial⟩⟩⟩⟩⟩⟩⟩ (hj2 0)
        · refine J_iconst (pc := 137) 1 dX1_years_137 (by decide) ?_
          refine J_goto (pc := 138) 142 dX1_years_138 rfl ?_
          exact J_sub (A := [some (.ref 20), none, some (.int c2), some (.int v2), none, some (.int v4), some (.int v5), none, some (.int v7), some (.int v8)]) ⟨rfl, ⟨rfl, ⟨rfl, ⟨rfl, ⟨rfl, ⟨rfl, ⟨rfl, trivial⟩⟩⟩⟩⟩⟩⟩ (hj2 1)
      refine J_icmp_ge (pc := 90) 110 dX1_years_90 rfl (fun h => if_pos h) (fun h => if_neg h) (fun _ => ?_) (fun _ => ?_)
      · refine J_aload_n (pc := 110) dX1_years_110 rfl ?_
        refine J_aload_n (pc := 111) dX1_years_111 rfl ?_
        refine J_get (pc := 112) (c := 0) (.ref 26) rfl in_X1 1 (by decide) q178 rfl (fun h => sh_k1 h 0 rfl) (fun h _ => fv_ref (Or.inl ⟨_, rfl⟩) (sh_r h 9 rfl)) dX1_years_112 ?_
        refine J_iload (pc := 115) dX1_years_115 rfl ?_
        refine J_aload_n (pc := 117) dX1_years_117 rfl ?_
        refine J_aload_n (pc := 118) dX1_years_118 rfl ?_
        refine J_get (pc := 119) (c := 0) (.int (M6.i 20 11)) rfl in_X1 11 (by decide) q188 rfl (fun h => sh_k1 h 0 rfl) (fun _ _ => rfl) dX1_years_119 ?_
        refine J_callV (pc := 122) (n := 1) (b := 20) (vs := [.int (M6.i 20 11)]) (ci := 0) (fun l => C_x_draws l (M6.i 20 11) M6) (lw_V q973 q975 qs56 q116 q976) nmv_X1_draws rfl (by omega) (by decide) rfl (fun h => sh_k1 h 0 rfl) rfl (Nat.le_of_ble_eq_true rfl) dX1_years_122 (fun v14 M10 => ?_)
        refine J_callV (pc := 125) (n := 3) (b := 20) (vs := [.ref 26, .int v6, .int v14]) (ci := 0) (fun l => C_x_says l 26 v6 v14 M10) (lw_V q741 q743 qs25 q116 q744) nmv_X1_says rfl (by omega) (by decide) rfl (fun h => sh_k1 h 0 rfl) rfl (Nat.le_of_ble_eq_true rfl) dX1_years_125 (fun v15 M11 => ?_)
        exact J_sub (A := [some (.ref 20), none, some (.int c2), some (.int v2), some (.int v3), some (.int v4), some (.int v5), none, some (.int v7), none]) ⟨rfl, ⟨rfl, ⟨rfl, ⟨rfl, ⟨rfl, ⟨rfl, ⟨rfl, trivial⟩⟩⟩⟩⟩⟩⟩ (hj1 v15 M11)
      · refine J_aload_n (pc := 93) dX1_years_93 rfl ?_
        refine J_aload_n (pc := 94) dX1_years_94 rfl ?_
        refine J_get (pc := 95) (c := 0) (.ref 26) rfl in_X1 1 (by decide) q178 rfl (fun h => sh_k1 h 0 rfl) (fun h _ => fv_ref (Or.inl ⟨_, rfl⟩) (sh_r h 9 rfl)) dX1_years_95 ?_
        refine J_iload (pc := 98) dX1_years_98 rfl ?_
        refine J_iconst (pc := 100) 1 dX1_years_100 (by decide) ?_
        refine J_iload (pc := 101) dX1_years_101 rfl ?_
        refine J_isub (pc := 103) dX1_years_103 ?_
        refine J_callV (pc := 104) (n := 3) (b := 20) (vs := [.ref 26, .int v6, .int (1 - v7)]) (ci := 0) (fun l => C_x_walks l 26 v6 (1 - v7) M6) (lw_V q716 q718 qs21 q116 q719) nmv_X1_walks rfl (by omega) (by decide) rfl (fun h => sh_k1 h 0 rfl) rfl (Nat.le_of_ble_eq_true rfl) dX1_years_104 (fun v16 M12 => ?_)
        refine J_goto (pc := 107) 128 dX1_years_107 rfl ?_
        exact J_sub (A := [some (.ref 20), none, some (.int c2), some (.int v2), some (.int v3), some (.int v4), some (.int v5), none, some (.int v7), none]) ⟨rfl, ⟨rfl, ⟨rfl, ⟨rfl, ⟨rfl, ⟨rfl, ⟨rfl, trivial⟩⟩⟩⟩⟩⟩⟩ (hj1 v16 M12)

def x_years (p1 : Int32) (p2 : Int32) (M : PM) : Option (Int32 × PM) :=
    if (M.i 20 12) = 0 then (some ((-2), M))
    else (if (M.i 20 11) = 0 then (some ((-2), M))
    else (bd (x_in (Int32.toInt64 p2) 1 60 M) fun v1 M1 =>
    if v1 = 0 then (some ((-1), M1))
    else (lt (M1.si 20 63 p1) fun M2 =>
    bd (rd_becomes 26 21 M2) fun _ M3 =>
    x_years_L55 p2 (fun (v17 : Int32) (v18 : Int32) (M13 : PM) =>
    lt (M13.si 20 67 0) fun M14 =>
    bd (x_tells (Int32.toInt64 v17) M14) fun _ M15 =>
    bd (x_tells (Int32.toInt64 v18) M15) fun _ M16 =>
    bd (jl_bitCount ((M16.i 26 5) &&& ((M16.i 21 5) ^^^ (-1))) M16) fun v19 M17 =>
    some (v19, M17)) FU 0 0 0 M3)))

set_option maxHeartbeats 4000000 in
theorem t_x_years (G : JG) (p1 : Int32) (p2 : Int32) (M : PM) : T_x_years G  M 0 (ent [.ref 20, .int p1, .int p2] 10) [] (x_years p1 p2 M) := by
  unfold x_years
  refine J_aload_n (pc := 0) dX1_years_0 rfl ?_
  refine J_get (pc := 1) (c := 0) (.int (M.i 20 12)) rfl in_X1 12 (by decide) q189 rfl (fun h => sh_k1 h 0 rfl) (fun _ _ => rfl) dX1_years_1 ?_
  refine J_if_eq (pc := 4) 14 dX1_years_4 rfl (fun h => if_pos h) (fun h => if_neg h) (fun _ => ?_) (fun _ => ?_)
  · refine J_bipush (pc := 14) (-2) dX1_years_14 (by decide) ?_
    exact J_iret (pc := 16) dX1_years_16
  · refine J_aload_n (pc := 7) dX1_years_7 rfl ?_
    refine J_get (pc := 8) (c := 0) (.int (M.i 20 11)) rfl in_X1 11 (by decide) q188 rfl (fun h => sh_k1 h 0 rfl) (fun _ _ => rfl) dX1_years_8 ?_
    refine J_if_ne (pc := 11) 17 dX1_years_11 rfl (fun h => if_neg h) (fun h => if_pos h) (fun _ => ?_) (fun _ => ?_)
    · refine J_iload_n (pc := 17) dX1_years_17 rfl ?_
      refine J_i2l (pc := 18) dX1_years_18 ?_
      refine J_lconst (pc := 19) 1 dX1_years_19 (by decide) ?_
      refine J_ldc2 (pc := 20) 60 q972 dX1_years_20 ?_
      refine J_callS (pc := 23) (n := 3) (vs := [.long (Int32.toInt64 p2), .long 1, .long 60]) (fun l => C_x_in l (Int32.toInt64 p2) 1 60 M) (lw_S q398 q399 q116 q400) nmh_X1_in rfl (by omega) (by decide) rfl (Nat.le_of_ble_eq_true rfl) dX1_years_23 (fun v1 M1 => ?_)
      refine J_if_ne (pc := 26) 31 dX1_years_26 rfl (fun h => if_neg h) (fun h => if_pos h) (fun _ => ?_) (fun _ => ?_)
      · refine J_aload_n (pc := 31) dX1_years_31 rfl ?_
        refine J_iload_n (pc := 32) dX1_years_32 rfl ?_
        refine J_put (pc := 33) (a := 20) (v := .int p1) (M' := M1.si 20 63 p1) (c := 0) rfl in_X1 tyX1_ok fnX1 63 (by decide) q247 rfl (Or.inl rfl) (fun h => sh_k1 h 0 rfl) (fun _ => rfl) (fun _ => rfl) ⟨⟨rfl, rfl⟩, rfl⟩ (fun _ hb => up2_same hb) (fun _ _ => rfl) (fun _ _ => rfl) (put_i (fun _ _ _ => rfl)) (fun h => Sh_si h) dX1_years_33 ?_
        refine J_ltM (fun M2 => ?_)
        refine J_aload_n (pc := 36) dX1_years_36 rfl ?_
        refine J_get (pc := 37) (c := 0) (.ref 26) rfl in_X1 1 (by decide) q178 rfl (fun h => sh_k1 h 0 rfl) (fun h _ => fv_ref (Or.inl ⟨_, rfl⟩) (sh_r h 9 rfl)) dX1_years_37 ?_
        refine J_aload_n (pc := 40) dX1_years_40 rfl ?_
        refine J_get (pc := 41) (c := 0) (.ref 21) rfl in_X1 0 (by decide) q177 rfl (fun h => sh_k1 h 0 rfl) (fun h _ => fv_ref (Or.inl ⟨_, rfl⟩) (sh_r h 4 rfl)) dX1_years_41 ?_
        refine J_callV (pc := 44) (n := 1) (b := 26) (vs := [.ref 21]) (ci := 1) (fun l => C_rd_becomes l 26 21 M2) (lw_V q665 q666 q667 q117 q668) nmv_X2_becomes rfl (by omega) (by decide) rfl (fun h => sh_k1 h 6 rfl) rfl (Nat.le_of_ble_eq_true rfl) dX1_years_44 (fun _ M3 => ?_)
        refine J_iconst (pc := 47) 0 dX1_years_47 (by decide) ?_
        refine J_istore_n (pc := 48) dX1_years_48 (by decide) ?_
        refine J_iconst (pc := 49) 0 dX1_years_49 (by decide) ?_
        refine J_istore (pc := 50) dX1_years_50 (by decide) ?_
        refine J_iconst (pc := 52) 0 dX1_years_52 (by decide) ?_
        refine J_istore (pc := 53) dX1_years_53 (by decide) ?_
        refine J_sub (A := [some (.ref 20), none, some (.int p2), some (.int 0), some (.int 0), some (.int 0), none, none, none, none]) ⟨rfl, ⟨rfl, ⟨rfl, ⟨rfl, ⟨rfl, trivial⟩⟩⟩⟩⟩ (t_x_years_L55 G p2 _ ?_ FU 0 0 0 M3)
        · intro v17 v18 M13
          refine J_aload_n (pc := 181) dX1_years_181 rfl ?_
          refine J_iconst (pc := 182) 0 dX1_years_182 (by decide) ?_
          refine J_put (pc := 183) (a := 20) (v := .int 0) (M' := M13.si 20 67 0) (c := 0) rfl in_X1 tyX1_ok fnX1 67 (by decide) q251 rfl (Or.inl rfl) (fun h => sh_k1 h 0 rfl) (fun _ => rfl) (fun _ => rfl) ⟨⟨rfl, rfl⟩, rfl⟩ (fun _ hb => up2_same hb) (fun _ _ => rfl) (fun _ _ => rfl) (put_i (fun _ _ _ => rfl)) (fun h => Sh_si h) dX1_years_183 ?_
          refine J_ltM (fun M14 => ?_)
          refine J_aload_n (pc := 186) dX1_years_186 rfl ?_
          refine J_iload_n (pc := 187) dX1_years_187 rfl ?_
          refine J_i2l (pc := 188) dX1_years_188 ?_
          refine J_callV (pc := 189) (n := 1) (b := 20) (vs := [.long (Int32.toInt64 v17)]) (ci := 0) (fun l => C_x_tells l (Int32.toInt64 v17) M14) (lw_V q708 q710 qs20 q116 q711) nmv_X1_tells rfl (by omega) (by decide) rfl (fun h => sh_k1 h 0 rfl) rfl (Nat.le_of_ble_eq_true rfl) dX1_years_189 (fun _ M15 => ?_)
          refine J_aload_n (pc := 192) dX1_years_192 rfl ?_
          refine J_iload (pc := 193) dX1_years_193 rfl ?_
          refine J_i2l (pc := 195) dX1_years_195 ?_
          refine J_callV (pc := 196) (n := 1) (b := 20) (vs := [.long (Int32.toInt64 v18)]) (ci := 0) (fun l => C_x_tells l (Int32.toInt64 v18) M15) (lw_V q708 q710 qs20 q116 q711) nmv_X1_tells rfl (by omega) (by decide) rfl (fun h => sh_k1 h 0 rfl) rfl (Nat.le_of_ble_eq_true rfl) dX1_years_196 (fun _ M16 => ?_)
          refine J_aload_n (pc := 199) dX1_years_199 rfl ?_
          refine J_get (pc := 200) (c := 0) (.ref 26) rfl in_X1 1 (by decide) q178 rfl (fun h => sh_k1 h 0 rfl) (fun h _ => fv_ref (Or.inl ⟨_, rfl⟩) (sh_r h 9 rfl)) dX1_years_200 ?_
          refine J_getN (host := "TollOnVowels") (pc := 203) (c := 1) (.int (M16.i 26 5)) rfl in_X2 5 (by decide) (by decide +kernel) rfl (fun h => sh_k1 h 6 rfl) (fun _ _ => rfl) dX1_years_203 ?_
          refine J_aload_n (pc := 206) dX1_years_206 rfl ?_
          refine J_get (pc := 207) (c := 0) (.ref 21) rfl in_X1 0 (by decide) q177 rfl (fun h => sh_k1 h 0 rfl) (fun h _ => fv_ref (Or.inl ⟨_, rfl⟩) (sh_r h 4 rfl)) dX1_years_207 ?_
          refine J_getN (host := "TollOnVowels") (pc := 210) (c := 1) (.int (M16.i 21 5)) rfl in_X2 5 (by decide) (by decide +kernel) rfl (fun h => sh_k1 h 1 rfl) (fun _ _ => rfl) dX1_years_210 ?_
          refine J_iconst (pc := 213) (-1) dX1_years_213 (by decide) ?_
          refine J_ixor (pc := 214) dX1_years_214 ?_
          refine J_iand (pc := 215) dX1_years_215 ?_
          refine J_callS (pc := 216) (n := 1) (vs := [.int ((M16.i 26 5) &&& ((M16.i 21 5) ^^^ (-1)))]) (fun l => C_jl_bitCount l ((M16.i 26 5) &&& ((M16.i 21 5) ^^^ (-1))) M16) (lw_S q866 q867 q135 q868) nmh_J10_bitCount rfl (by omega) (by decide) rfl (Nat.le_of_ble_eq_true rfl) dX1_years_216 (fun v19 M17 => ?_)
          exact J_iret (pc := 219) dX1_years_219
      · refine J_iconst (pc := 29) (-1) dX1_years_29 (by decide) ?_
        exact J_iret (pc := 30) dX1_years_30
    · refine J_bipush (pc := 14) (-2) dX1_years_14 (by decide) ?_
      exact J_iret (pc := 16) dX1_years_16

theorem C_x_years (l : Launch) (p1 : Int32) (p2 : Int32) (M : PM) : Ctr l Sh yX1_years cX1_years 10 (some .int) 143 rvI [.ref 20, .int p1, .int p2] M (x_years p1 p2 M) := Ctr.of (by decide +kernel) (Nat.le_of_ble_eq_true rfl) (fun G => t_x_years G p1 p2 M)

abbrev T_x_keep (G : JG) (M : PM) (pc : Nat) (L : List (Option Value)) (S : List Value) (o : Option (Int32 × PM)) : Prop := JJ G cX1_keep yX1_keep 2 2 (some .boolean) Sh (finR G Sh rvI) M pc L S o
def x_keep (p1 : Int32) (M : PM) : Option (Int32 × PM) :=
    bd (x_in (Int32.toInt64 p1) 0 1 M) fun v1 M1 =>
    if v1 = 0 then (some (0, M1))
    else (ck p1 2 <|
    lt (M1.r 69 (ix p1)) fun r1 =>
    jn (fun (M2 : PM) =>
    ck p1 2 <|
    lt (M2.r 69 (ix p1)) fun r2 =>
    rf r2 fun a1 =>
    ckk M2 a1 1 <|
    bd (rd_becomes a1 21 M2) fun _ M3 =>
    ck p1 2 <|
    lt (M3.si 70 (ix p1) (M3.i 20 14)) fun M4 =>
    some (1, M4)) fun j1 =>
    nl r1 (lt (M1.nw 1 0 6) fun M5 =>
    bd (rd_init M1.n M5) fun _ M6 =>
    ck p1 2 <|
    ckk M6 M1.n 1 <|
    lt (M6.sr 69 (ix p1) (some M1.n)) fun M7 =>
    j1 M7) fun a2 =>
    j1 M1)

set_option maxHeartbeats 4000000 in
theorem t_x_keep (G : JG) (p1 : Int32) (M : PM) : T_x_keep G  M 0 (ent [.ref 20, .int p1] 2) [] (x_keep p1 M) := by
  unfold x_keep
  refine J_iload_n (pc := 0) dX1_keep_0 rfl ?_
  refine J_i2l (pc := 1) dX1_keep_1 ?_
  refine J_lconst (pc := 2) 0 dX1_keep_2 (by decide) ?_
  refine J_lconst (pc := 3) 1 dX1_keep_3 (by decide) ?_
  refine J_callS (pc := 4) (n := 3) (vs := [.long (Int32.toInt64 p1), .long 0, .long 1]) (fun l => C_x_in l (Int32.toInt64 p1) 0 1 M) (lw_S q398 q399 q116 q400) nmh_X1_in rfl (by omega) (by decide) rfl (Nat.le_of_ble_eq_true rfl) dX1_keep_4 (fun v1 M1 => ?_)
  refine J_if_ne (pc := 7) 12 dX1_keep_7 rfl (fun h => if_neg h) (fun h => if_pos h) (fun _ => ?_) (fun _ => ?_)
  · refine J_aload_n (pc := 12) dX1_keep_12 rfl ?_
    refine J_get (pc := 13) (c := 0) (.ref 69) rfl in_X1 64 (by decide) q248 rfl (fun h => sh_k1 h 0 rfl) (fun h _ => fv_ref (Or.inr ⟨_, rfl⟩) (sh_r h 48 rfl)) dX1_keep_13 ?_
    refine J_iload_n (pc := 16) dX1_keep_16 rfl ?_
    refine J_ck (fun h1 => ?_)
    refine J_aaldO (pc := 17) (a := 69) (fun h => sh_a h 49 rfl h1) dX1_keep_17 (fun r1 => ?_)
    refine J_jn (P := fun J => ∀ (M2 : PM), T_x_keep G  M2 34 [some (.ref 20), some (.int p1)] [] (J M2)) (fun M2 => ?_) (fun j1 hj1 => ?_)
    · refine J_aload_n (pc := 34) dX1_keep_34 rfl ?_
      refine J_get (pc := 35) (c := 0) (.ref 69) rfl in_X1 64 (by decide) q248 rfl (fun h => sh_k1 h 0 rfl) (fun h _ => fv_ref (Or.inr ⟨_, rfl⟩) (sh_r h 48 rfl)) dX1_keep_35 ?_
      refine J_iload_n (pc := 38) dX1_keep_38 rfl ?_
      refine J_ck (fun h2 => ?_)
      refine J_aaldO (pc := 39) (a := 69) (fun h => sh_a h 49 rfl h2) dX1_keep_39 (fun r2 => ?_)
      refine J_aload_n (pc := 40) dX1_keep_40 rfl ?_
      refine J_get (pc := 41) (c := 0) (.ref 21) rfl in_X1 0 (by decide) q177 rfl (fun h => sh_k1 h 0 rfl) (fun h _ => fv_ref (Or.inl ⟨_, rfl⟩) (sh_r h 4 rfl)) dX1_keep_41 ?_
      refine J_rfe (fun a1 ea1 => ?_)
      subst ea1
      refine J_ckk (fun h3 => ?_)
      refine J_callV (pc := 44) (n := 1) (b := a1) (vs := [.ref 21]) (ci := 1) (fun l => C_rd_becomes l a1 21 M2) (lw_V q665 q666 q667 q117 q668) nmv_X2_becomes rfl (by omega) (by decide) rfl (fun _ => h3) rfl (Nat.le_of_ble_eq_true rfl) dX1_keep_44 (fun _ M3 => ?_)
      refine J_aload_n (pc := 47) dX1_keep_47 rfl ?_
      refine J_get (pc := 48) (c := 0) (.ref 70) rfl in_X1 65 (by decide) q249 rfl (fun h => sh_k1 h 0 rfl) (fun h _ => fv_ref (Or.inr ⟨_, rfl⟩) (sh_r h 49 rfl)) dX1_keep_48 ?_
      refine J_iload_n (pc := 51) dX1_keep_51 rfl ?_
      refine J_aload_n (pc := 52) dX1_keep_52 rfl ?_
      refine J_get (pc := 53) (c := 0) (.int (M3.i 20 14)) rfl in_X1 14 (by decide) q191 rfl (fun h => sh_k1 h 0 rfl) (fun _ _ => rfl) dX1_keep_53 ?_
      refine J_ck (fun h4 => ?_)
      refine J_iast (pc := 56) (a := 70) (fun h => sh_a h 50 rfl h4) (fun h => Sh_si h) dX1_keep_56 ?_
      refine J_ltM (fun M4 => ?_)
      refine J_iconst (pc := 57) 1 dX1_keep_57 (by decide) ?_
      exact J_zret (pc := 58) rfl dX1_keep_58
    refine J_ifnonnullE (pc := 18) (r := r1) 34 dX1_keep_18 rfl (fun ea2 => ?_) (fun a2 ea2 => ?_)
    · subst ea2
      refine J_aload_n (pc := 21) dX1_keep_21 rfl ?_
      refine J_get (pc := 22) (c := 0) (.ref 69) rfl in_X1 64 (by decide) q248 rfl (fun h => sh_k1 h 0 rfl) (fun h _ => fv_ref (Or.inr ⟨_, rfl⟩) (sh_r h 48 rfl)) dX1_keep_22 ?_
      refine J_iload_n (pc := 25) dX1_keep_25 rfl ?_
      refine J_new (pc := 26) (c := 1) rfl in_X2 tyX2_ok q144 q145 q117 df_X2 (fun h => Sh_nw h) dX1_keep_26 ?_
      refine J_ltM (fun M5 => ?_)
      refine J_dup (pc := 29) dX1_keep_29 rfl ?_
      refine J_callIN (host := "TollOnVowels") (pc := 30) (n := 0) (b := M1.n) (vs := []) (fun l => C_rd_init l M1.n M5) (lw_meth q148) q117 (by decide +kernel) q147 rfl nmh_X2_init rfl (by omega) (by decide) rfl (Nat.le_of_ble_eq_true rfl) dX1_keep_30 (fun _u M6 => ?_)
      refine J_ck (fun h5 => ?_)
      refine J_ckk (fun h6 => ?_)
      refine J_aast (pc := 33) (a := 69) (b := M1.n) (fun h => sh_a h 49 rfl h5) (fun _ => h6) (fun h => Sh_srA h rfl) dX1_keep_33 ?_
      refine J_ltM (fun M7 => ?_)
      exact J_sub (A := [some (.ref 20), some (.int p1)]) ⟨rfl, ⟨rfl, trivial⟩⟩ (hj1 M7)
    · subst ea2
      exact J_sub (A := [some (.ref 20), some (.int p1)]) ⟨rfl, ⟨rfl, trivial⟩⟩ (hj1 M1)
  · refine J_iconst (pc := 10) 0 dX1_keep_10 (by decide) ?_
    exact J_zret (pc := 11) rfl dX1_keep_11

theorem C_x_keep (l : Launch) (p1 : Int32) (M : PM) : Ctr l Sh yX1_keep cX1_keep 2 (some .boolean) 2 rvI [.ref 20, .int p1] M (x_keep p1 M) := Ctr.of (by decide +kernel) (Nat.le_of_ble_eq_true rfl) (fun G => t_x_keep G p1 M)

abbrev T_x_again (G : JG) (M : PM) (pc : Nat) (L : List (Option Value)) (S : List Value) (o : Option (Int32 × PM)) : Prop := JJ G cX1_again yX1_again 2 2 (some .boolean) Sh (finR G Sh rvI) M pc L S o
def x_again (p1 : Int32) (M : PM) : Option (Int32 × PM) :=
    bd (x_in (Int32.toInt64 p1) 0 1 M) fun v1 M1 =>
    if v1 = 0 then (some (0, M1))
    else (ck p1 2 <|
    lt (M1.r 69 (ix p1)) fun r1 =>
    nl r1 (some (0, M1)) fun a1 =>
    ck p1 2 <|
    if (M1.i 70 (ix p1)) = (M1.i 20 14) then (ck p1 2 <|
    lt (M1.r 69 (ix p1)) fun r2 =>
    rf r2 fun a2 =>
    bd (rd_becomes 21 a2 M1) fun _ M2 =>
    lt (M2.si 20 43 0) fun M3 =>
    some (1, M3))
    else (some (0, M1)))

set_option maxHeartbeats 4000000 in
theorem t_x_again (G : JG) (p1 : Int32) (M : PM) : T_x_again G  M 0 (ent [.ref 20, .int p1] 2) [] (x_again p1 M) := by
  unfold x_again
  refine J_iload_n (pc := 0) dX1_again_0 rfl ?_
  refine J_i2l (pc := 1) dX1_again_1 ?_
  refine J_lconst (pc := 2) 0 dX1_again_2 (by decide) ?_
  refine J_lconst (pc := 3) 1 dX1_again_3 (by decide) ?_
  refine J_callS (pc := 4) (n := 3) (vs := [.long (Int32.toInt64 p1), .long 0, .long 1]) (fun l => C_x_in l (Int32.toInt64 p1) 0 1 M) (lw_S q398 q399 q116 q400) nmh_X1_in rfl (by omega) (by decide) rfl (Nat.le_of_ble_eq_true rfl) dX1_again_4 (fun v1 M1 => ?_)
  refine J_if_eq (pc := 7) 32 dX1_again_7 rfl (fun h => if_pos h) (fun h => if_neg h) (fun _ => ?_) (fun _ => ?_)
  · refine J_iconst (pc := 32) 0 dX1_again_32 (by decide) ?_
    exact J_zret (pc := 33) rfl dX1_again_33
  · refine J_aload_n (pc := 10) dX1_again_10 rfl ?_
    refine J_get (pc := 11) (c := 0) (.ref 69) rfl in_X1 64 (by decide) q248 rfl (fun h => sh_k1 h 0 rfl) (fun h _ => fv_ref (Or.inr ⟨_, rfl⟩) (sh_r h 48 rfl)) dX1_again_11 ?_
    refine J_iload_n (pc := 14) dX1_again_14 rfl ?_
    refine J_ck (fun h1 => ?_)
    refine J_aaldO (pc := 15) (a := 69) (fun h => sh_a h 49 rfl h1) dX1_again_15 (fun r1 => ?_)
    refine J_ifnullE (pc := 16) (r := r1) 32 dX1_again_16 rfl (fun ea1 => ?_) (fun a1 ea1 => ?_)
    · subst ea1
      refine J_iconst (pc := 32) 0 dX1_again_32 (by decide) ?_
      exact J_zret (pc := 33) rfl dX1_again_33
    · subst ea1
      refine J_aload_n (pc := 19) dX1_again_19 rfl ?_
      refine J_get (pc := 20) (c := 0) (.ref 70) rfl in_X1 65 (by decide) q249 rfl (fun h => sh_k1 h 0 rfl) (fun h _ => fv_ref (Or.inr ⟨_, rfl⟩) (sh_r h 49 rfl)) dX1_again_20 ?_
      refine J_iload_n (pc := 23) dX1_again_23 rfl ?_
      refine J_ck (fun h2 => ?_)
      refine J_iald (pc := 24) (a := 70) (fun h => sh_a h 50 rfl h2) dX1_again_24 ?_
      refine J_aload_n (pc := 25) dX1_again_25 rfl ?_
      refine J_get (pc := 26) (c := 0) (.int (M1.i 20 14)) rfl in_X1 14 (by decide) q191 rfl (fun h => sh_k1 h 0 rfl) (fun _ _ => rfl) dX1_again_26 ?_
      refine J_icmp_eq (pc := 29) 34 dX1_again_29 rfl (fun h => if_pos h) (fun h => if_neg h) (fun _ => ?_) (fun _ => ?_)
      · refine J_aload_n (pc := 34) dX1_again_34 rfl ?_
        refine J_get (pc := 35) (c := 0) (.ref 21) rfl in_X1 0 (by decide) q177 rfl (fun h => sh_k1 h 0 rfl) (fun h _ => fv_ref (Or.inl ⟨_, rfl⟩) (sh_r h 4 rfl)) dX1_again_35 ?_
        refine J_aload_n (pc := 38) dX1_again_38 rfl ?_
        refine J_get (pc := 39) (c := 0) (.ref 69) rfl in_X1 64 (by decide) q248 rfl (fun h => sh_k1 h 0 rfl) (fun h _ => fv_ref (Or.inr ⟨_, rfl⟩) (sh_r h 48 rfl)) dX1_again_39 ?_
        refine J_iload_n (pc := 42) dX1_again_42 rfl ?_
        refine J_ck (fun h3 => ?_)
        refine J_aaldO (pc := 43) (a := 69) (fun h => sh_a h 49 rfl h3) dX1_again_43 (fun r2 => ?_)
        refine J_rfe (fun a2 ea2 => ?_)
        subst ea2
        refine J_callV (pc := 44) (n := 1) (b := 21) (vs := [.ref a2]) (ci := 1) (fun l => C_rd_becomes l 21 a2 M1) (lw_V q665 q666 q667 q117 q668) nmv_X2_becomes rfl (by omega) (by decide) rfl (fun h => sh_k1 h 1 rfl) rfl (Nat.le_of_ble_eq_true rfl) dX1_again_44 (fun _ M2 => ?_)
        refine J_aload_n (pc := 47) dX1_again_47 rfl ?_
        refine J_iconst (pc := 48) 0 dX1_again_48 (by decide) ?_
        refine J_put (pc := 49) (a := 20) (v := .int 0) (M' := M2.si 20 43 0) (c := 0) rfl in_X1 tyX1_ok fnX1 43 (by decide) q227 rfl (Or.inl rfl) (fun h => sh_k1 h 0 rfl) (fun _ => rfl) (fun _ => rfl) ⟨⟨rfl, rfl⟩, rfl⟩ (fun _ hb => up2_same hb) (fun _ _ => rfl) (fun _ _ => rfl) (put_i (fun _ _ _ => rfl)) (fun h => Sh_si h) dX1_again_49 ?_
        refine J_ltM (fun M3 => ?_)
        refine J_iconst (pc := 52) 1 dX1_again_52 (by decide) ?_
        exact J_zret (pc := 53) rfl dX1_again_53
      · refine J_iconst (pc := 32) 0 dX1_again_32 (by decide) ?_
        exact J_zret (pc := 33) rfl dX1_again_33

theorem C_x_again (l : Launch) (p1 : Int32) (M : PM) : Ctr l Sh yX1_again cX1_again 2 (some .boolean) 2 rvI [.ref 20, .int p1] M (x_again p1 M) := Ctr.of (by decide +kernel) (Nat.le_of_ble_eq_true rfl) (fun G => t_x_again G p1 M)

abbrev T_x_compounds (G : JG) (M : PM) (pc : Nat) (L : List (Option Value)) (S : List Value) (o : Option (Int32 × PM)) : Prop := JJ G cX1_compounds yX1_compounds 3 1 (some .int) Sh (finR G Sh rvI) M pc L S o
def x_compounds_L4 : Nat → Int32 → Int32 → PM → Option (Int32 × PM)
  | 0, _, _, _ => none
  | n + 1, v1, v2, M1 =>
    if (M1.i 20 11) ≤ v2 then (some (v1, M1))
    else (ck v2 10 <|
    lt (if (M1.i 34 (ix v2)) < 0 then 0 else (1 <<< (v2 &&& 31)) : Int32) fun v3 =>
    lt (v1 ||| v3) fun v4 =>
    lt (v2 + 1) fun v5 =>
    x_compounds_L4 n v4 v5 M1)

set_option maxHeartbeats 4000000 in
theorem t_x_compounds_L4 (G : JG) : ∀ (n : Nat) (v1 : Int32) (v2 : Int32) (M1 : PM), T_x_compounds G  M1 4 [some (.ref 20), some (.int v1), some (.int v2)] [] (x_compounds_L4 n v1 v2 M1) := by
  intro n
  induction n with
  | zero =>
    intro v1 v2 M1
    exact J_none
  | succ n ih =>
    intro v1 v2 M1
    rw [x_compounds_L4]
    refine J_iload_n (pc := 4) dX1_compounds_4 rfl ?_
    refine J_aload_n (pc := 5) dX1_compounds_5 rfl ?_
    refine J_get (pc := 6) (c := 0) (.int (M1.i 20 11)) rfl in_X1 11 (by decide) q188 rfl (fun h => sh_k1 h 0 rfl) (fun _ _ => rfl) dX1_compounds_6 ?_
    refine J_icmp_ge (pc := 9) 37 dX1_compounds_9 rfl (fun h => if_pos h) (fun h => if_neg h) (fun _ => ?_) (fun _ => ?_)
    · refine J_iload_n (pc := 37) dX1_compounds_37 rfl ?_
      exact J_iret (pc := 38) dX1_compounds_38
    · refine J_iload_n (pc := 12) dX1_compounds_12 rfl ?_
      refine J_aload_n (pc := 13) dX1_compounds_13 rfl ?_
      refine J_get (pc := 14) (c := 0) (.ref 34) rfl in_X1 5 (by decide) q182 rfl (fun h => sh_k1 h 0 rfl) (fun h _ => fv_ref (Or.inr ⟨_, rfl⟩) (sh_r h 13 rfl)) dX1_compounds_14 ?_
      refine J_iload_n (pc := 17) dX1_compounds_17 rfl ?_
      refine J_ck (fun h1 => ?_)
      refine J_iald (pc := 18) (a := 34) (fun h => sh_a h 14 rfl h1) dX1_compounds_18 ?_
      refine J_ltj (β := Int32) (P := fun J => ∀ v3 : Int32, T_x_compounds G M1 29 [some (.ref 20), none, some (.int v2)] [.int v3, .int v1] (J v3)) (fun v3 => ?_) (fun j1 hj1 => ?_)
      · refine J_ior (pc := 29) dX1_compounds_29 ?_
        refine J_lt (β := Int32) (v := (v1 ||| v3)) (L := fun _ => _) (S := fun v4 => [.int v4]) (fun v4 => ?_)
        refine J_istore_n (pc := 30) dX1_compounds_30 (by decide) ?_
        refine J_iincL (pc := 31) (n := 1) (by decide) dX1_compounds_31 rfl (by decide) (fun v5 => ?_)
        refine J_goto (pc := 34) 4 dX1_compounds_34 rfl ?_
        exact J_sub (A := [some (.ref 20), some (.int v4), some (.int v5)]) ⟨rfl, ⟨rfl, ⟨rfl, trivial⟩⟩⟩ (ih v4 v5 M1)
      refine J_if_lt (pc := 19) 28 dX1_compounds_19 rfl (fun h => congrArg j1 (if_pos h)) (fun h => congrArg j1 (if_neg h)) (fun _ => ?_) (fun _ => ?_)
      · refine J_iconst (pc := 28) 0 dX1_compounds_28 (by decide) ?_
        exact J_sub (A := [some (.ref 20), none, some (.int v2)]) ⟨rfl, ⟨rfl, trivial⟩⟩ (hj1 0)
      · refine J_iconst (pc := 22) 1 dX1_compounds_22 (by decide) ?_
        refine J_iload_n (pc := 23) dX1_compounds_23 rfl ?_
        refine J_ishl (pc := 24) dX1_compounds_24 ?_
        refine J_goto (pc := 25) 29 dX1_compounds_25 rfl ?_
        exact J_sub (A := [some (.ref 20), none, some (.int v2)]) ⟨rfl, ⟨rfl, trivial⟩⟩ (hj1 (1 <<< (v2 &&& 31)))

def x_compounds (M : PM) : Option (Int32 × PM) :=
    x_compounds_L4 FU 0 0 M

set_option maxHeartbeats 4000000 in
theorem t_x_compounds (G : JG) (M : PM) : T_x_compounds G  M 0 (ent [.ref 20] 3) [] (x_compounds M) := by
  unfold x_compounds
  refine J_iconst (pc := 0) 0 dX1_compounds_0 (by decide) ?_
  refine J_istore_n (pc := 1) dX1_compounds_1 (by decide) ?_
  refine J_iconst (pc := 2) 0 dX1_compounds_2 (by decide) ?_
  refine J_istore_n (pc := 3) dX1_compounds_3 (by decide) ?_
  refine J_sub (A := [some (.ref 20), some (.int 0), some (.int 0)]) ⟨rfl, ⟨rfl, ⟨rfl, trivial⟩⟩⟩ (t_x_compounds_L4 G   FU 0 0 M)

theorem C_x_compounds (l : Launch) (M : PM) : Ctr l Sh yX1_compounds cX1_compounds 3 (some .int) 1 rvI [.ref 20] M (x_compounds M) := Ctr.of (by decide +kernel) (Nat.le_of_ble_eq_true rfl) (fun G => t_x_compounds G M)

abbrev T_x_purses (G : JG) (M : PM) (pc : Nat) (L : List (Option Value)) (S : List Value) (o : Option (Int32 × PM)) : Prop := JJ G cX1_purses yX1_purses 3 1 (some .int) Sh (finR G Sh rvI) M pc L S o
def x_purses_L4 : Nat → Int32 → Int32 → PM → Option (Int32 × PM)
  | 0, _, _, _ => none
  | n + 1, v1, v2, M1 =>
    if (M1.i 20 12) ≤ v2 then (some (v1, M1))
    else (ck v2 4 <|
    lt (v1 + (M1.i 23 (ix v2))) fun v3 =>
    lt (v2 + 1) fun v4 =>
    x_purses_L4 n v3 v4 M1)

set_option maxHeartbeats 4000000 in
theorem t_x_purses_L4 (G : JG) : ∀ (n : Nat) (v1 : Int32) (v2 : Int32) (M1 : PM), T_x_purses G  M1 4 [some (.ref 20), some (.int v1), some (.int v2)] [] (x_purses_L4 n v1 v2 M1) := by
  intro n
  induction n with
  | zero =>
    intro v1 v2 M1
    exact J_none
  | succ n ih =>
    intro v1 v2 M1
    rw [x_purses_L4]
    refine J_iload_n (pc := 4) dX1_purses_4 rfl ?_
    refine J_aload_n (pc := 5) dX1_purses_5 rfl ?_
    refine J_get (pc := 6) (c := 0) (.int (M1.i 20 12)) rfl in_X1 12 (by decide) q189 rfl (fun h => sh_k1 h 0 rfl) (fun _ _ => rfl) dX1_purses_6 ?_
    refine J_icmp_ge (pc := 9) 30 dX1_purses_9 rfl (fun h => if_pos h) (fun h => if_neg h) (fun _ => ?_) (fun _ => ?_)
    · refine J_iload_n (pc := 30) dX1_purses_30 rfl ?_
      exact J_iret (pc := 31) dX1_purses_31
    · refine J_iload_n (pc := 12) dX1_purses_12 rfl ?_
      refine J_aload_n (pc := 13) dX1_purses_13 rfl ?_
      refine J_get (pc := 14) (c := 0) (.ref 21) rfl in_X1 0 (by decide) q177 rfl (fun h => sh_k1 h 0 rfl) (fun h _ => fv_ref (Or.inl ⟨_, rfl⟩) (sh_r h 4 rfl)) dX1_purses_14 ?_
      refine J_getN (host := "TollOnVowels") (pc := 17) (c := 1) (.ref 23) rfl in_X2 1 (by decide) (by decide +kernel) rfl (fun h => sh_k1 h 1 rfl) (fun h _ => fv_ref (Or.inr ⟨_, rfl⟩) (sh_r h 1 rfl)) dX1_purses_17 ?_
      refine J_iload_n (pc := 20) dX1_purses_20 rfl ?_
      refine J_ck (fun h1 => ?_)
      refine J_iald (pc := 21) (a := 23) (fun h => sh_a h 3 rfl h1) dX1_purses_21 ?_
      refine J_iadd (pc := 22) dX1_purses_22 ?_
      refine J_lt (β := Int32) (v := (v1 + (M1.i 23 (ix v2)))) (L := fun _ => _) (S := fun v3 => [.int v3]) (fun v3 => ?_)
      refine J_istore_n (pc := 23) dX1_purses_23 (by decide) ?_
      refine J_iincL (pc := 24) (n := 1) (by decide) dX1_purses_24 rfl (by decide) (fun v4 => ?_)
      refine J_goto (pc := 27) 4 dX1_purses_27 rfl ?_
      exact J_sub (A := [some (.ref 20), some (.int v3), some (.int v4)]) ⟨rfl, ⟨rfl, ⟨rfl, trivial⟩⟩⟩ (ih v3 v4 M1)

def x_purses (M : PM) : Option (Int32 × PM) :=
    x_purses_L4 FU 0 0 M

set_option maxHeartbeats 4000000 in
theorem t_x_purses (G : JG) (M : PM) : T_x_purses G  M 0 (ent [.ref 20] 3) [] (x_purses M) := by
  unfold x_purses
  refine J_iconst (pc := 0) 0 dX1_purses_0 (by decide) ?_
  refine J_istore_n (pc := 1) dX1_purses_1 (by decide) ?_
  refine J_iconst (pc := 2) 0 dX1_purses_2 (by decide) ?_
  refine J_istore_n (pc := 3) dX1_purses_3 (by decide) ?_
  refine J_sub (A := [some (.ref 20), some (.int 0), some (.int 0)]) ⟨rfl, ⟨rfl, ⟨rfl, trivial⟩⟩⟩ (t_x_purses_L4 G   FU 0 0 M)

theorem C_x_purses (l : Launch) (M : PM) : Ctr l Sh yX1_purses cX1_purses 3 (some .int) 1 rvI [.ref 20] M (x_purses M) := Ctr.of (by decide +kernel) (Nat.le_of_ble_eq_true rfl) (fun G => t_x_purses G M)

abbrev T_rd_heardInAll (G : JG) (M : PM) (pc : Nat) (L : List (Option Value)) (S : List Value) (o : Option (Int32 × PM)) : Prop := JJ G cX2_heardInAll yX2_heardInAll 3 1 (some .int) Sh (finR G Sh rvI) M pc L S o
def rd_heardInAll_L4 (c0 : Nat) : Nat → Int32 → Int32 → PM → Option (Int32 × PM)
  | 0, _, _, _ => none
  | n + 1, v1, v2, M1 =>
    if 30 ≤ v2 then (some (v1, M1))
    else (ckk M1 c0 1 <|
    lt (M1.r c0 3) fun r1 =>
    rf r1 fun a1 =>
    cka M1 a1 20 v2 <|
    lt (v1 + (M1.i a1 (ix v2))) fun v3 =>
    lt (v2 + 1) fun v4 =>
    rd_heardInAll_L4 c0 n v3 v4 M1)

set_option maxHeartbeats 4000000 in
theorem t_rd_heardInAll_L4 (G : JG) (c0 : Nat) : ∀ (n : Nat) (v1 : Int32) (v2 : Int32) (M1 : PM), T_rd_heardInAll G  M1 4 [some (.ref c0), some (.int v1), some (.int v2)] [] (rd_heardInAll_L4 c0 n v1 v2 M1) := by
  intro n
  induction n with
  | zero =>
    intro v1 v2 M1
    exact J_none
  | succ n ih =>
    intro v1 v2 M1
    rw [rd_heardInAll_L4]
    refine J_iload_n (pc := 4) dX2_heardInAll_4 rfl ?_
    refine J_bipush (pc := 5) 30 dX2_heardInAll_5 (by decide) ?_
    refine J_icmp_ge (pc := 7) 25 dX2_heardInAll_7 rfl (fun h => if_pos h) (fun h => if_neg h) (fun _ => ?_) (fun _ => ?_)
    · refine J_iload_n (pc := 25) dX2_heardInAll_25 rfl ?_
      exact J_iret (pc := 26) dX2_heardInAll_26
    · refine J_iload_n (pc := 10) dX2_heardInAll_10 rfl ?_
      refine J_aload_n (pc := 11) dX2_heardInAll_11 rfl ?_
      refine J_ckk (fun h1 => ?_)
      refine J_getO (pc := 12) (c := 1) rfl in_X2 3 (by decide) q156 rfl (fun _ => h1) (fun _ _ => fv_rf (Or.inr ⟨_, rfl⟩)) dX2_heardInAll_12 (fun r1 => ?_)
      refine J_iload_n (pc := 15) dX2_heardInAll_15 rfl ?_
      refine J_rfe (fun a1 ea1 => ?_)
      subst ea1
      refine J_cka (fun h2 h22 => ?_)
      refine J_iald (pc := 16) (a := a1) (fun _ => ⟨h2, h22⟩) dX2_heardInAll_16 ?_
      refine J_iadd (pc := 17) dX2_heardInAll_17 ?_
      refine J_lt (β := Int32) (v := (v1 + (M1.i a1 (ix v2)))) (L := fun _ => _) (S := fun v3 => [.int v3]) (fun v3 => ?_)
      refine J_istore_n (pc := 18) dX2_heardInAll_18 (by decide) ?_
      refine J_iincL (pc := 19) (n := 1) (by decide) dX2_heardInAll_19 rfl (by decide) (fun v4 => ?_)
      refine J_goto (pc := 22) 4 dX2_heardInAll_22 rfl ?_
      exact J_sub (A := [some (.ref c0), some (.int v3), some (.int v4)]) ⟨rfl, ⟨rfl, ⟨rfl, trivial⟩⟩⟩ (ih v3 v4 M1)

def rd_heardInAll (p0 : Nat) (M : PM) : Option (Int32 × PM) :=
    rd_heardInAll_L4 p0 FU 0 0 M

set_option maxHeartbeats 4000000 in
theorem t_rd_heardInAll (G : JG) (p0 : Nat) (M : PM) : T_rd_heardInAll G  M 0 (ent [.ref p0] 3) [] (rd_heardInAll p0 M) := by
  unfold rd_heardInAll
  refine J_iconst (pc := 0) 0 dX2_heardInAll_0 (by decide) ?_
  refine J_istore_n (pc := 1) dX2_heardInAll_1 (by decide) ?_
  refine J_iconst (pc := 2) 0 dX2_heardInAll_2 (by decide) ?_
  refine J_istore_n (pc := 3) dX2_heardInAll_3 (by decide) ?_
  refine J_sub (A := [some (.ref p0), some (.int 0), some (.int 0)]) ⟨rfl, ⟨rfl, ⟨rfl, trivial⟩⟩⟩ (t_rd_heardInAll_L4 G p0  FU 0 0 M)

theorem C_rd_heardInAll (l : Launch) (p0 : Nat) (M : PM) : Ctr l Sh yX2_heardInAll cX2_heardInAll 3 (some .int) 1 rvI [.ref p0] M (rd_heardInAll p0 M) := Ctr.of (by decide +kernel) (Nat.le_of_ble_eq_true rfl) (fun G => t_rd_heardInAll G p0 M)

abbrev T_x_count (G : JG) (M : PM) (pc : Nat) (L : List (Option Value)) (S : List Value) (o : Option (Int32 × PM)) : Prop := JJ G cX1_count yX1_count 2 2 (some .int) Sh (finR G Sh rvI) M pc L S o
def x_count (p1 : Int32) (M : PM) : Option (Int32 × PM) :=
    if p1 = 0 then (some ((M.i 20 10), M))
    else if p1 = 1 then (some ((M.i 20 11), M))
    else if p1 = 2 then (some ((M.i 20 12), M))
    else if p1 = 3 then (some ((M.i 20 13), M))
    else if p1 = 4 then (some ((M.i 21 4), M))
    else if p1 = 5 then (some ((M.i 21 5), M))
    else if p1 = 6 then (bd (rd_heardInAll 21 M) fun v1 M1 =>
    some (v1, M1))
    else if p1 = 7 then (bd (x_purses M) fun v2 M2 =>
    some (v2, M2))
    else if p1 = 8 then (bd (x_compounds M) fun v3 M3 =>
    some (v3, M3))
    else if p1 = 9 then (some ((M.i 20 43), M))
    else if p1 = 10 then (some ((M.i 20 67), M))
    else if p1 = 11 then (some ((M.i 20 16), M))
    else (some ((-1), M))

set_option maxHeartbeats 4000000 in
theorem t_x_count (G : JG) (p1 : Int32) (M : PM) : T_x_count G  M 0 (ent [.ref 20, .int p1] 2) [] (x_count p1 M) := by
  unfold x_count
  refine J_iload_n (pc := 0) dX1_count_0 rfl ?_
  refine J_ite (fun h_1_0 => ?_) (fun h_1_0 => ?_)
  · refine J_tableIn (pc := 1) 64 dX1_count_1 (by rw [h_1_0]; decide) (by rw [h_1_0]; decide) (by rw [h_1_0]; rfl) rfl ?_
    refine J_aload_n (pc := 64) dX1_count_64 rfl ?_
    refine J_get (pc := 65) (c := 0) (.int (M.i 20 10)) rfl in_X1 10 (by decide) q187 rfl (fun h => sh_k1 h 0 rfl) (fun _ _ => rfl) dX1_count_65 ?_
    exact J_iret (pc := 68) dX1_count_68
  · refine J_ite (fun h_1_1 => ?_) (fun h_1_1 => ?_)
    · refine J_tableIn (pc := 1) 69 dX1_count_1 (by rw [h_1_1]; decide) (by rw [h_1_1]; decide) (by rw [h_1_1]; rfl) rfl ?_
      refine J_aload_n (pc := 69) dX1_count_69 rfl ?_
      refine J_get (pc := 70) (c := 0) (.int (M.i 20 11)) rfl in_X1 11 (by decide) q188 rfl (fun h => sh_k1 h 0 rfl) (fun _ _ => rfl) dX1_count_70 ?_
      exact J_iret (pc := 73) dX1_count_73
    · refine J_ite (fun h_1_2 => ?_) (fun h_1_2 => ?_)
      · refine J_tableIn (pc := 1) 74 dX1_count_1 (by rw [h_1_2]; decide) (by rw [h_1_2]; decide) (by rw [h_1_2]; rfl) rfl ?_
        refine J_aload_n (pc := 74) dX1_count_74 rfl ?_
        refine J_get (pc := 75) (c := 0) (.int (M.i 20 12)) rfl in_X1 12 (by decide) q189 rfl (fun h => sh_k1 h 0 rfl) (fun _ _ => rfl) dX1_count_75 ?_
        exact J_iret (pc := 78) dX1_count_78
      · refine J_ite (fun h_1_3 => ?_) (fun h_1_3 => ?_)
        · refine J_tableIn (pc := 1) 79 dX1_count_1 (by rw [h_1_3]; decide) (by rw [h_1_3]; decide) (by rw [h_1_3]; rfl) rfl ?_
          refine J_aload_n (pc := 79) dX1_count_79 rfl ?_
          refine J_get (pc := 80) (c := 0) (.int (M.i 20 13)) rfl in_X1 13 (by decide) q190 rfl (fun h => sh_k1 h 0 rfl) (fun _ _ => rfl) dX1_count_80 ?_
          exact J_iret (pc := 83) dX1_count_83
        · refine J_ite (fun h_1_4 => ?_) (fun h_1_4 => ?_)
          · refine J_tableIn (pc := 1) 84 dX1_count_1 (by rw [h_1_4]; decide) (by rw [h_1_4]; decide) (by rw [h_1_4]; rfl) rfl ?_
            refine J_aload_n (pc := 84) dX1_count_84 rfl ?_
            refine J_get (pc := 85) (c := 0) (.ref 21) rfl in_X1 0 (by decide) q177 rfl (fun h => sh_k1 h 0 rfl) (fun h _ => fv_ref (Or.inl ⟨_, rfl⟩) (sh_r h 4 rfl)) dX1_count_85 ?_
            refine J_getN (host := "TollOnVowels") (pc := 88) (c := 1) (.int (M.i 21 4)) rfl in_X2 4 (by decide) (by decide +kernel) rfl (fun h => sh_k1 h 1 rfl) (fun _ _ => rfl) dX1_count_88 ?_
            exact J_iret (pc := 91) dX1_count_91
          · refine J_ite (fun h_1_5 => ?_) (fun h_1_5 => ?_)
            · refine J_tableIn (pc := 1) 92 dX1_count_1 (by rw [h_1_5]; decide) (by rw [h_1_5]; decide) (by rw [h_1_5]; rfl) rfl ?_
              refine J_aload_n (pc := 92) dX1_count_92 rfl ?_
              refine J_get (pc := 93) (c := 0) (.ref 21) rfl in_X1 0 (by decide) q177 rfl (fun h => sh_k1 h 0 rfl) (fun h _ => fv_ref (Or.inl ⟨_, rfl⟩) (sh_r h 4 rfl)) dX1_count_93 ?_
              refine J_getN (host := "TollOnVowels") (pc := 96) (c := 1) (.int (M.i 21 5)) rfl in_X2 5 (by decide) (by decide +kernel) rfl (fun h => sh_k1 h 1 rfl) (fun _ _ => rfl) dX1_count_96 ?_
              exact J_iret (pc := 99) dX1_count_99
            · refine J_ite (fun h_1_6 => ?_) (fun h_1_6 => ?_)
              · refine J_tableIn (pc := 1) 100 dX1_count_1 (by rw [h_1_6]; decide) (by rw [h_1_6]; decide) (by rw [h_1_6]; rfl) rfl ?_
                refine J_aload_n (pc := 100) dX1_count_100 rfl ?_
                refine J_get (pc := 101) (c := 0) (.ref 21) rfl in_X1 0 (by decide) q177 rfl (fun h => sh_k1 h 0 rfl) (fun h _ => fv_ref (Or.inl ⟨_, rfl⟩) (sh_r h 4 rfl)) dX1_count_101 ?_
                refine J_callV (pc := 104) (n := 0) (b := 21) (vs := []) (ci := 1) (fun l => C_rd_heardInAll l 21 M) (lw_V q990 q991 q992 q117 q993) nmv_X2_heardInAll rfl (by omega) (by decide) rfl (fun h => sh_k1 h 1 rfl) rfl (Nat.le_of_ble_eq_true rfl) dX1_count_104 (fun v1 M1 => ?_)
                exact J_iret (pc := 107) dX1_count_107
              · refine J_ite (fun h_1_7 => ?_) (fun h_1_7 => ?_)
                · refine J_tableIn (pc := 1) 108 dX1_count_1 (by rw [h_1_7]; decide) (by rw [h_1_7]; decide) (by rw [h_1_7]; rfl) rfl ?_
                  refine J_aload_n (pc := 108) dX1_count_108 rfl ?_
                  refine J_callV (pc := 109) (n := 0) (b := 20) (vs := []) (ci := 0) (fun l => C_x_purses l  M) (lw_V q994 q996 qs57 q116 q997) nmv_X1_purses rfl (by omega) (by decide) rfl (fun h => sh_k1 h 0 rfl) rfl (Nat.le_of_ble_eq_true rfl) dX1_count_109 (fun v2 M2 => ?_)
                  exact J_iret (pc := 112) dX1_count_112
                · refine J_ite (fun h_1_8 => ?_) (fun h_1_8 => ?_)
                  · refine J_tableIn (pc := 1) 113 dX1_count_1 (by rw [h_1_8]; decide) (by rw [h_1_8]; decide) (by rw [h_1_8]; rfl) rfl ?_
                    refine J_aload_n (pc := 113) dX1_count_113 rfl ?_
                    refine J_callV (pc := 114) (n := 0) (b := 20) (vs := []) (ci := 0) (fun l => C_x_compounds l  M) (lw_V q998 q1000 qs58 q116 q1001) nmv_X1_compounds rfl (by omega) (by decide) rfl (fun h => sh_k1 h 0 rfl) rfl (Nat.le_of_ble_eq_true rfl) dX1_count_114 (fun v3 M3 => ?_)
                    exact J_iret (pc := 117) dX1_count_117
                  · refine J_ite (fun h_1_9 => ?_) (fun h_1_9 => ?_)
                    · refine J_tableIn (pc := 1) 118 dX1_count_1 (by rw [h_1_9]; decide) (by rw [h_1_9]; decide) (by rw [h_1_9]; rfl) rfl ?_
                      refine J_aload_n (pc := 118) dX1_count_118 rfl ?_
                      refine J_get (pc := 119) (c := 0) (.int (M.i 20 43)) rfl in_X1 43 (by decide) q227 rfl (fun h => sh_k1 h 0 rfl) (fun _ _ => rfl) dX1_count_119 ?_
                      exact J_iret (pc := 122) dX1_count_122
                    · refine J_ite (fun h_1_10 => ?_) (fun h_1_10 => ?_)
                      · refine J_tableIn (pc := 1) 123 dX1_count_1 (by rw [h_1_10]; decide) (by rw [h_1_10]; decide) (by rw [h_1_10]; rfl) rfl ?_
                        refine J_aload_n (pc := 123) dX1_count_123 rfl ?_
                        refine J_get (pc := 124) (c := 0) (.int (M.i 20 67)) rfl in_X1 67 (by decide) q251 rfl (fun h => sh_k1 h 0 rfl) (fun _ _ => rfl) dX1_count_124 ?_
                        exact J_iret (pc := 127) dX1_count_127
                      · refine J_ite (fun h_1_11 => ?_) (fun h_1_11 => ?_)
                        · refine J_tableIn (pc := 1) 128 dX1_count_1 (by rw [h_1_11]; decide) (by rw [h_1_11]; decide) (by rw [h_1_11]; rfl) rfl ?_
                          refine J_aload_n (pc := 128) dX1_count_128 rfl ?_
                          refine J_get (pc := 129) (c := 0) (.int (M.i 20 16)) rfl in_X1 16 (by decide) q193 rfl (fun h => sh_k1 h 0 rfl) (fun _ _ => rfl) dX1_count_129 ?_
                          exact J_iret (pc := 132) dX1_count_132
                        · refine J_tableD (pc := 1) 133 dX1_count_1 rfl (by decide) (by decide) [0, 1, 2, 3, 4, 5, 6, 7, 8, 9, 10, 11] (by decide +kernel) (by simp only [List.mem_cons, List.not_mem_nil, or_false, forall_eq_or_imp, forall_eq]; exact ⟨fun q => h_1_0 (i32_of q), fun q => h_1_1 (i32_of q), fun q => h_1_2 (i32_of q), fun q => h_1_3 (i32_of q), fun q => h_1_4 (i32_of q), fun q => h_1_5 (i32_of q), fun q => h_1_6 (i32_of q), fun q => h_1_7 (i32_of q), fun q => h_1_8 (i32_of q), fun q => h_1_9 (i32_of q), fun q => h_1_10 (i32_of q), fun q => h_1_11 (i32_of q)⟩) ?_
                          refine J_iconst (pc := 133) (-1) dX1_count_133 (by decide) ?_
                          exact J_iret (pc := 134) dX1_count_134

theorem C_x_count (l : Launch) (p1 : Int32) (M : PM) : Ctr l Sh yX1_count cX1_count 2 (some .int) 2 rvI [.ref 20, .int p1] M (x_count p1 M) := Ctr.of (by decide +kernel) (Nat.le_of_ble_eq_true rfl) (fun G => t_x_count G p1 M)

