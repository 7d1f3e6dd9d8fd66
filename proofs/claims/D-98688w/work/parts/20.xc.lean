set_option maxRecDepth 100000
abbrev T_x_when (G : JG) (M : PM) (pc : Nat) (L : List (Option Value)) (S : List Value) (o : Option (Int32 × PM)) : Prop := JJ G cX1_when yX1_when 5 143 (some .int) Sh (finR G Sh rvI) M pc L S o
def x_when_L23 (c1 : Int32) (c2 : Int32) (k77 : Int32 → PM → Option (Int32 × PM)) : Nat → Int32 → Int32 → PM → Option (Int32 × PM)
  | 0, _, _, _ => none
  | n + 1, v3, v4, M3 =>
    if 24 ≤ v4 then (k77 v3 M3)
    else (bd (x_tollOf c1 c2 ((M3.i 21 4) + v4) M3) fun v5 M4 =>
    bd (x_tollOf c1 c2 ((M4.i 21 4) + v3) M4) fun v6 M5 =>
    lt (if v6 ≤ v5 then v3 else v4 : Int32) fun v7 =>
    lt (v4 + 1) fun v8 =>
    x_when_L23 c1 c2 k77 n v7 v8 M5)

set_option maxHeartbeats 4000000 in
theorem t_x_when_L23 (G : JG) (c1 : Int32) (c2 : Int32) (k77 : Int32 → PM → Option (Int32 × PM)) (hk77 : ∀ z3 Me, T_x_when G  Me 77 [some (.ref 20), some (.int c1), some (.int c2), some (.int z3), none] [] (k77 z3 Me)) : ∀ (n : Nat) (v3 : Int32) (v4 : Int32) (M3 : PM), T_x_when G  M3 23 [some (.ref 20), some (.int c1), some (.int c2), some (.int v3), some (.int v4)] [] (x_when_L23 c1 c2 k77 n v3 v4 M3) := by
  intro n
  induction n with
  | zero =>
    intro v3 v4 M3
    exact J_none
  | succ n ih =>
    intro v3 v4 M3
    rw [x_when_L23]
    refine J_iload (pc := 23) dX1_when_23 rfl ?_
    refine J_bipush (pc := 25) 24 dX1_when_25 (by decide) ?_
    refine J_icmp_ge (pc := 27) 77 dX1_when_27 rfl (fun h => if_pos h) (fun h => if_neg h) (fun _ => ?_) (fun _ => ?_)
    · exact J_sub (A := [some (.ref 20), some (.int c1), some (.int c2), some (.int v3), none]) ⟨rfl, ⟨rfl, ⟨rfl, ⟨rfl, trivial⟩⟩⟩⟩ (hk77 v3 M3)
    · refine J_aload_n (pc := 30) dX1_when_30 rfl ?_
      refine J_iload_n (pc := 31) dX1_when_31 rfl ?_
      refine J_iload_n (pc := 32) dX1_when_32 rfl ?_
      refine J_aload_n (pc := 33) dX1_when_33 rfl ?_
      refine J_get (pc := 34) (c := 0) (.ref 21) rfl in_X1 0 (by decide) q177 rfl (fun h => sh_k1 h 0 rfl) (fun h _ => fv_ref (Or.inl ⟨_, rfl⟩) (sh_r h 4 rfl)) dX1_when_34 ?_
      refine J_getN (host := "TollOnVowels") (pc := 37) (c := 1) (.int (M3.i 21 4)) rfl in_X2 4 (by decide) (by decide +kernel) rfl (fun h => sh_k1 h 1 rfl) (fun _ _ => rfl) dX1_when_37 ?_
      refine J_iload (pc := 40) dX1_when_40 rfl ?_
      refine J_iadd (pc := 42) dX1_when_42 ?_
      refine J_callV (pc := 43) (n := 3) (b := 20) (vs := [.int c1, .int c2, .int ((M3.i 21 4) + v4)]) (ci := 0) (fun l => C_x_tollOf l c1 c2 ((M3.i 21 4) + v4) M3) (lw_V q682 q684 qs18 q116 q685) nmv_X1_tollOf rfl (by omega) (by decide) rfl (fun h => sh_k1 h 0 rfl) rfl (Nat.le_of_ble_eq_true rfl) dX1_when_43 (fun v5 M4 => ?_)
      refine J_aload_n (pc := 46) dX1_when_46 rfl ?_
      refine J_iload_n (pc := 47) dX1_when_47 rfl ?_
      refine J_iload_n (pc := 48) dX1_when_48 rfl ?_
      refine J_aload_n (pc := 49) dX1_when_49 rfl ?_
      refine J_get (pc := 50) (c := 0) (.ref 21) rfl in_X1 0 (by decide) q177 rfl (fun h => sh_k1 h 0 rfl) (fun h _ => fv_ref (Or.inl ⟨_, rfl⟩) (sh_r h 4 rfl)) dX1_when_50 ?_
      refine J_getN (host := "TollOnVowels") (pc := 53) (c := 1) (.int (M4.i 21 4)) rfl in_X2 4 (by decide) (by decide +kernel) rfl (fun h => sh_k1 h 1 rfl) (fun _ _ => rfl) dX1_when_53 ?_
      refine J_iload_n (pc := 56) dX1_when_56 rfl ?_
      refine J_iadd (pc := 57) dX1_when_57 ?_
      refine J_callV (pc := 58) (n := 3) (b := 20) (vs := [.int c1, .int c2, .int ((M4.i 21 4) + v3)]) (ci := 0) (fun l => C_x_tollOf l c1 c2 ((M4.i 21 4) + v3) M4) (lw_V q682 q684 qs18 q116 q685) nmv_X1_tollOf rfl (by omega) (by decide) rfl (fun h => sh_k1 h 0 rfl) rfl (Nat.le_of_ble_eq_true rfl) dX1_when_58 (fun v6 M5 => ?_)
      refine J_ltj (β := Int32) (P := fun J => ∀ v7 : Int32, T_x_when G M5 70 [some (.ref 20), some (.int c1), some (.int c2), none, some (.int v4)] [.int v7] (J v7)) (fun v7 => ?_) (fun j1 hj1 => ?_)
      · refine J_istore_n (pc := 70) dX1_when_70 (by decide) ?_
        refine J_iincL (pc := 71) (n := 1) (by decide) dX1_when_71 rfl (by decide) (fun v8 => ?_)
        refine J_goto (pc := 74) 23 dX1_when_74 rfl ?_
        exact J_sub (A := [some (.ref 20), some (.int c1), some (.int c2), some (.int v7), some (.int v8)]) ⟨rfl, ⟨rfl, ⟨rfl, ⟨rfl, ⟨rfl, trivial⟩⟩⟩⟩⟩ (ih v7 v8 M5)
      refine J_icmp_ge (pc := 61) 69 dX1_when_61 rfl (fun h => congrArg j1 (if_pos h)) (fun h => congrArg j1 (if_neg h)) (fun _ => ?_) (fun _ => ?_)
      · refine J_iload_n (pc := 69) dX1_when_69 rfl ?_
        exact J_sub (A := [some (.ref 20), some (.int c1), some (.int c2), none, some (.int v4)]) ⟨rfl, ⟨rfl, ⟨rfl, ⟨rfl, trivial⟩⟩⟩⟩ (hj1 v3)
      · refine J_iload (pc := 64) dX1_when_64 rfl ?_
        refine J_goto (pc := 66) 70 dX1_when_66 rfl ?_
        exact J_sub (A := [some (.ref 20), some (.int c1), some (.int c2), none, some (.int v4)]) ⟨rfl, ⟨rfl, ⟨rfl, ⟨rfl, trivial⟩⟩⟩⟩ (hj1 v4)

def x_when (p1 : Int32) (p2 : Int32) (M : PM) : Option (Int32 × PM) :=
    bd (x_isWord p1 M) fun v1 M1 =>
    if v1 = 0 then (some ((-1), M1))
    else (bd (x_isStation p2 M1) fun v2 M2 =>
    if v2 = 0 then (some ((-1), M2))
    else (x_when_L23 p1 p2 (fun (v9 : Int32) (M6 : PM) =>
    lt (M6.si 20 67 0) fun M7 =>
    bd (x_tollOf p1 p2 ((M7.i 21 4) + v9) M7) fun v10 M8 =>
    bd (x_tells (Int32.toInt64 v10) M8) fun _ M9 =>
    bd (x_tollNow p1 p2 M9) fun v11 M10 =>
    bd (x_tells (Int32.toInt64 v11) M10) fun _ M11 =>
    some (v9, M11)) FU 0 1 M2))

set_option maxHeartbeats 4000000 in
theorem t_x_when (G : JG) (p1 : Int32) (p2 : Int32) (M : PM) : T_x_when G  M 0 (ent [.ref 20, .int p1, .int p2] 5) [] (x_when p1 p2 M) := by
  unfold x_when
  refine J_aload_n (pc := 0) dX1_when_0 rfl ?_
  refine J_iload_n (pc := 1) dX1_when_1 rfl ?_
  refine J_callV (pc := 2) (n := 1) (b := 20) (vs := [.int p1]) (ci := 0) (fun l => C_x_isWord l p1 M) (lw_V q674 q676 qs16 q116 q677) nmv_X1_isWord rfl (by omega) (by decide) rfl (fun h => sh_k1 h 0 rfl) rfl (Nat.le_of_ble_eq_true rfl) dX1_when_2 (fun v1 M1 => ?_)
  refine J_if_eq (pc := 5) 16 dX1_when_5 rfl (fun h => if_pos h) (fun h => if_neg h) (fun _ => ?_) (fun _ => ?_)
  · refine J_iconst (pc := 16) (-1) dX1_when_16 (by decide) ?_
    exact J_iret (pc := 17) dX1_when_17
  · refine J_aload_n (pc := 8) dX1_when_8 rfl ?_
    refine J_iload_n (pc := 9) dX1_when_9 rfl ?_
    refine J_callV (pc := 10) (n := 1) (b := 20) (vs := [.int p2]) (ci := 0) (fun l => C_x_isStation l p2 M1) (lw_V q678 q680 qs17 q116 q681) nmv_X1_isStation rfl (by omega) (by decide) rfl (fun h => sh_k1 h 0 rfl) rfl (Nat.le_of_ble_eq_true rfl) dX1_when_10 (fun v2 M2 => ?_)
    refine J_if_ne (pc := 13) 18 dX1_when_13 rfl (fun h => if_neg h) (fun h => if_pos h) (fun _ => ?_) (fun _ => ?_)
    · refine J_iconst (pc := 18) 0 dX1_when_18 (by decide) ?_
      refine J_istore_n (pc := 19) dX1_when_19 (by decide) ?_
      refine J_iconst (pc := 20) 1 dX1_when_20 (by decide) ?_
      refine J_istore (pc := 21) dX1_when_21 (by decide) ?_
      refine J_sub (A := [some (.ref 20), some (.int p1), some (.int p2), some (.int 0), some (.int 1)]) ⟨rfl, ⟨rfl, ⟨rfl, ⟨rfl, ⟨rfl, trivial⟩⟩⟩⟩⟩ (t_x_when_L23 G p1 p2 _ ?_ FU 0 1 M2)
      · intro v9 M6
        refine J_aload_n (pc := 77) dX1_when_77 rfl ?_
        refine J_iconst (pc := 78) 0 dX1_when_78 (by decide) ?_
        refine J_put (pc := 79) (a := 20) (v := .int 0) (M' := M6.si 20 67 0) (c := 0) rfl in_X1 tyX1_ok fnX1 67 (by decide) q251 rfl (Or.inl rfl) (fun h => sh_k1 h 0 rfl) (fun _ => rfl) (fun _ => rfl) ⟨⟨rfl, rfl⟩, rfl⟩ (fun _ hb => up2_same hb) (fun _ _ => rfl) (fun _ _ => rfl) (put_i (fun _ _ _ => rfl)) (fun h => Sh_si h) dX1_when_79 ?_
        refine J_ltM (fun M7 => ?_)
        refine J_aload_n (pc := 82) dX1_when_82 rfl ?_
        refine J_aload_n (pc := 83) dX1_when_83 rfl ?_
        refine J_iload_n (pc := 84) dX1_when_84 rfl ?_
        refine J_iload_n (pc := 85) dX1_when_85 rfl ?_
        refine J_aload_n (pc := 86) dX1_when_86 rfl ?_
        refine J_get (pc := 87) (c := 0) (.ref 21) rfl in_X1 0 (by decide) q177 rfl (fun h => sh_k1 h 0 rfl) (fun h _ => fv_ref (Or.inl ⟨_, rfl⟩) (sh_r h 4 rfl)) dX1_when_87 ?_
        refine J_getN (host := "TollOnVowels") (pc := 90) (c := 1) (.int (M7.i 21 4)) rfl in_X2 4 (by decide) (by decide +kernel) rfl (fun h => sh_k1 h 1 rfl) (fun _ _ => rfl) dX1_when_90 ?_
        refine J_iload_n (pc := 93) dX1_when_93 rfl ?_
        refine J_iadd (pc := 94) dX1_when_94 ?_
        refine J_callV (pc := 95) (n := 3) (b := 20) (vs := [.int p1, .int p2, .int ((M7.i 21 4) + v9)]) (ci := 0) (fun l => C_x_tollOf l p1 p2 ((M7.i 21 4) + v9) M7) (lw_V q682 q684 qs18 q116 q685) nmv_X1_tollOf rfl (by omega) (by decide) rfl (fun h => sh_k1 h 0 rfl) rfl (Nat.le_of_ble_eq_true rfl) dX1_when_95 (fun v10 M8 => ?_)
        refine J_i2l (pc := 98) dX1_when_98 ?_
        refine J_callV (pc := 99) (n := 1) (b := 20) (vs := [.long (Int32.toInt64 v10)]) (ci := 0) (fun l => C_x_tells l (Int32.toInt64 v10) M8) (lw_V q708 q710 qs20 q116 q711) nmv_X1_tells rfl (by omega) (by decide) rfl (fun h => sh_k1 h 0 rfl) rfl (Nat.le_of_ble_eq_true rfl) dX1_when_99 (fun _ M9 => ?_)
        refine J_aload_n (pc := 102) dX1_when_102 rfl ?_
        refine J_aload_n (pc := 103) dX1_when_103 rfl ?_
        refine J_iload_n (pc := 104) dX1_when_104 rfl ?_
        refine J_iload_n (pc := 105) dX1_when_105 rfl ?_
        refine J_callV (pc := 106) (n := 2) (b := 20) (vs := [.int p1, .int p2]) (ci := 0) (fun l => C_x_tollNow l p1 p2 M9) (lw_V q800 q802 qs34 q116 q803) nmv_X1_tollNow rfl (by omega) (by decide) rfl (fun h => sh_k1 h 0 rfl) rfl (Nat.le_of_ble_eq_true rfl) dX1_when_106 (fun v11 M10 => ?_)
        refine J_i2l (pc := 109) dX1_when_109 ?_
        refine J_callV (pc := 110) (n := 1) (b := 20) (vs := [.long (Int32.toInt64 v11)]) (ci := 0) (fun l => C_x_tells l (Int32.toInt64 v11) M10) (lw_V q708 q710 qs20 q116 q711) nmv_X1_tells rfl (by omega) (by decide) rfl (fun h => sh_k1 h 0 rfl) rfl (Nat.le_of_ble_eq_true rfl) dX1_when_110 (fun _ M11 => ?_)
        refine J_iload_n (pc := 113) dX1_when_113 rfl ?_
        exact J_iret (pc := 114) dX1_when_114
    · refine J_iconst (pc := 16) (-1) dX1_when_16 (by decide) ?_
      exact J_iret (pc := 17) dX1_when_17

theorem C_x_when (l : Launch) (p1 : Int32) (p2 : Int32) (M : PM) : Ctr l Sh yX1_when cX1_when 5 (some .int) 143 rvI [.ref 20, .int p1, .int p2] M (x_when p1 p2 M) := Ctr.of (by decide +kernel) (Nat.le_of_ble_eq_true rfl) (fun G => t_x_when G p1 p2 M)

abbrev T_x_shortest (G : JG) (M : PM) (pc : Nat) (L : List (Option Value)) (S : List Value) (o : Option (Int32 × PM)) : Prop := JJ G cX1_shortest yX1_shortest 8 143 (some .int) Sh (finR G Sh rvI) M pc L S o
def x_shortest_L41 (c1 : Int32) (c2 : Int32) (c3 : Int32) (k141 : Int32 → PM → Option (Int32 × PM)) : Nat → Int32 → Int32 → PM → Option (Int32 × PM)
  | 0, _, _, _ => none
  | n + 1, v4, v5, M4 =>
    if (M4.i 20 11) ≤ v5 then (k141 v4 M4)
    else (bd (x_tollNow v5 c2 M4) fun v6 M5 =>
    bd (x_means v5 c1 M5) fun v7 M6 =>
    jn (fun (v8 : Int32) (M7 : PM) =>
    lt (v5 + 1) fun v9 =>
    x_shortest_L41 c1 c2 c3 k141 n v8 v9 M7) fun j1 =>
    if v7 = 0 then (j1 v4 M6)
    else (if v6 ≤ c3 then (jn (fun (v10 : Int32) (M8 : PM) =>
    jn (fun (v11 : Int32) (M9 : PM) =>
    j1 v11 M9) fun j3 =>
    if v10 < 0 then (j3 v5 M8)
    else (if v10 = 0 then (bd (x_tollNow v4 c2 M8) fun v12 M10 =>
    if v12 ≤ v6 then (j3 v4 M10)
    else (j3 v5 M10))
    else (j3 v4 M8))) fun j2 =>
    if 0 ≤ v4 then (ck v5 10 <|
    ck v4 10 <|
    j2 ((M6.i 32 (ix v5)) - (M6.i 32 (ix v4))) M6)
    else (j2 (-1) M6))
    else (j1 v4 M6)))

set_option maxHeartbeats 4000000 in
theorem t_x_shortest_L41 (G : JG) (c1 : Int32) (c2 : Int32) (c3 : Int32) (k141 : Int32 → PM → Option (Int32 × PM)) (hk141 : ∀ z4 Me, T_x_shortest G  Me 141 [some (.ref 20), none, some (.int c2), none, some (.int z4), none, none, none] [] (k141 z4 Me)) : ∀ (n : Nat) (v4 : Int32) (v5 : Int32) (M4 : PM), T_x_shortest G  M4 41 [some (.ref 20), some (.int c1), some (.int c2), some (.int c3), some (.int v4), some (.int v5), none, none] [] (x_shortest_L41 c1 c2 c3 k141 n v4 v5 M4) := by
  intro n
  induction n with
  | zero =>
    intro v4 v5 M4
    exact J_none
  | succ n ih =>
    intro v4 v5 M4
    rw [x_shortest_L41]
    refine J_iload (pc := 41) dX1_shortest_41 rfl ?_
    refine J_aload_n (pc := 43) dX1_shortest_43 rfl ?_
    refine J_get (pc := 44) (c := 0) (.int (M4.i 20 11)) rfl in_X1 11 (by decide) q188 rfl (fun h => sh_k1 h 0 rfl) (fun _ _ => rfl) dX1_shortest_44 ?_
    refine J_icmp_ge (pc := 47) 141 dX1_shortest_47 rfl (fun h => if_pos h) (fun h => if_neg h) (fun _ => ?_) (fun _ => ?_)
    · exact J_sub (A := [some (.ref 20), none, some (.int c2), none, some (.int v4), none, none, none]) ⟨rfl, ⟨rfl, ⟨rfl, trivial⟩⟩⟩ (hk141 v4 M4)
    · refine J_aload_n (pc := 50) dX1_shortest_50 rfl ?_
      refine J_iload (pc := 51) dX1_shortest_51 rfl ?_
      refine J_iload_n (pc := 53) dX1_shortest_53 rfl ?_
      refine J_callV (pc := 54) (n := 2) (b := 20) (vs := [.int v5, .int c2]) (ci := 0) (fun l => C_x_tollNow l v5 c2 M4) (lw_V q800 q802 qs34 q116 q803) nmv_X1_tollNow rfl (by omega) (by decide) rfl (fun h => sh_k1 h 0 rfl) rfl (Nat.le_of_ble_eq_true rfl) dX1_shortest_54 (fun v6 M5 => ?_)
      refine J_istore (pc := 57) dX1_shortest_57 (by decide) ?_
      refine J_aload_n (pc := 59) dX1_shortest_59 rfl ?_
      refine J_iload (pc := 60) dX1_shortest_60 rfl ?_
      refine J_iload_n (pc := 62) dX1_shortest_62 rfl ?_
      refine J_callV (pc := 63) (n := 2) (b := 20) (vs := [.int v5, .int c1]) (ci := 0) (fun l => C_x_means l v5 c1 M5) (lw_V q760 q762 qs27 q116 q763) nmv_X1_means rfl (by omega) (by decide) rfl (fun h => sh_k1 h 0 rfl) rfl (Nat.le_of_ble_eq_true rfl) dX1_shortest_63 (fun v7 M6 => ?_)
      refine J_jn (P := fun J => ∀ (v8 : Int32) (M7 : PM), T_x_shortest G  M7 135 [some (.ref 20), some (.int c1), some (.int c2), some (.int c3), some (.int v8), some (.int v5), none, none] [] (J v8 M7)) (fun v8 M7 => ?_) (fun j1 hj1 => ?_)
      · refine J_iincL (pc := 135) (n := 1) (by decide) dX1_shortest_135 rfl (by decide) (fun v9 => ?_)
        refine J_goto (pc := 138) 41 dX1_shortest_138 rfl ?_
        exact J_sub (A := [some (.ref 20), some (.int c1), some (.int c2), some (.int c3), some (.int v8), some (.int v9), none, none]) ⟨rfl, ⟨rfl, ⟨rfl, ⟨rfl, ⟨rfl, ⟨rfl, trivial⟩⟩⟩⟩⟩⟩ (ih v8 v9 M7)
      refine J_if_eq (pc := 66) 135 dX1_shortest_66 rfl (fun h => if_pos h) (fun h => if_neg h) (fun _ => ?_) (fun _ => ?_)
      · exact J_sub (A := [some (.ref 20), some (.int c1), some (.int c2), some (.int c3), some (.int v4), some (.int v5), none, none]) ⟨rfl, ⟨rfl, ⟨rfl, ⟨rfl, ⟨rfl, ⟨rfl, trivial⟩⟩⟩⟩⟩⟩ (hj1 v4 M6)
      · refine J_iload (pc := 69) dX1_shortest_69 rfl ?_
        refine J_iload_n (pc := 71) dX1_shortest_71 rfl ?_
        refine J_icmp_le (pc := 72) 78 dX1_shortest_72 rfl (fun h => if_pos h) (fun h => if_neg h) (fun _ => ?_) (fun _ => ?_)
        · refine J_iload (pc := 78) dX1_shortest_78 rfl ?_
          refine J_jn (P := fun J => ∀ (v10 : Int32) (M8 : PM), T_x_shortest G  M8 102 [some (.ref 20), some (.int c1), some (.int c2), some (.int c3), some (.int v4), some (.int v5), some (.int v6), none] [.int v10] (J v10 M8)) (fun v10 M8 => ?_) (fun j2 hj2 => ?_)
          · refine J_istore (pc := 102) dX1_shortest_102 (by decide) ?_
            refine J_iload (pc := 104) dX1_shortest_104 rfl ?_
            refine J_jn (P := fun J => ∀ (v11 : Int32) (M9 : PM), T_x_shortest G  M9 133 [some (.ref 20), some (.int c1), some (.int c2), some (.int c3), none, some (.int v5), none, none] [.int v11] (J v11 M9)) (fun v11 M9 => ?_) (fun j3 hj3 => ?_)
            · refine J_istore (pc := 133) dX1_shortest_133 (by decide) ?_
              exact J_sub (A := [some (.ref 20), some (.int c1), some (.int c2), some (.int c3), some (.int v11), some (.int v5), none, none]) ⟨rfl, ⟨rfl, ⟨rfl, ⟨rfl, ⟨rfl, ⟨rfl, trivial⟩⟩⟩⟩⟩⟩ (hj1 v11 M9)
            refine J_if_lt (pc := 106) 126 dX1_shortest_106 rfl (fun h => if_pos h) (fun h => if_neg h) (fun _ => ?_) (fun _ => ?_)
            · refine J_iload (pc := 126) dX1_shortest_126 rfl ?_
              refine J_goto (pc := 128) 133 dX1_shortest_128 rfl ?_
              exact J_sub (A := [some (.ref 20), some (.int c1), some (.int c2), some (.int c3), none, some (.int v5), none, none]) ⟨rfl, ⟨rfl, ⟨rfl, ⟨rfl, ⟨rfl, trivial⟩⟩⟩⟩⟩ (hj3 v5 M8)
            · refine J_iload (pc := 109) dX1_shortest_109 rfl ?_
              refine J_if_ne (pc := 111) 131 dX1_shortest_111 rfl (fun h => if_neg h) (fun h => if_pos h) (fun _ => ?_) (fun _ => ?_)
              · refine J_iload (pc := 131) dX1_shortest_131 rfl ?_
                exact J_sub (A := [some (.ref 20), some (.int c1), some (.int c2), some (.int c3), none, some (.int v5), none, none]) ⟨rfl, ⟨rfl, ⟨rfl, ⟨rfl, ⟨rfl, trivial⟩⟩⟩⟩⟩ (hj3 v4 M8)
              · refine J_iload (pc := 114) dX1_shortest_114 rfl ?_
                refine J_aload_n (pc := 116) dX1_shortest_116 rfl ?_
                refine J_iload (pc := 117) dX1_shortest_117 rfl ?_
                refine J_iload_n (pc := 119) dX1_shortest_119 rfl ?_
                refine J_callV (pc := 120) (n := 2) (b := 20) (vs := [.int v4, .int c2]) (ci := 0) (fun l => C_x_tollNow l v4 c2 M8) (lw_V q800 q802 qs34 q116 q803) nmv_X1_tollNow rfl (by omega) (by decide) rfl (fun h => sh_k1 h 0 rfl) rfl (Nat.le_of_ble_eq_true rfl) dX1_shortest_120 (fun v12 M10 => ?_)
                refine J_icmp_ge (pc := 123) 131 dX1_shortest_123 rfl (fun h => if_pos h) (fun h => if_neg h) (fun _ => ?_) (fun _ => ?_)
                · refine J_iload (pc := 131) dX1_shortest_131 rfl ?_
                  exact J_sub (A := [some (.ref 20), some (.int c1), some (.int c2), some (.int c3), none, some (.int v5), none, none]) ⟨rfl, ⟨rfl, ⟨rfl, ⟨rfl, ⟨rfl, trivial⟩⟩⟩⟩⟩ (hj3 v4 M10)
                · refine J_iload (pc := 126) dX1_shortest_126 rfl ?_
                  refine J_goto (pc := 128) 133 dX1_shortest_128 rfl ?_
                  exact J_sub (A := [some (.ref 20), some (.int c1), some (.int c2), some (.int c3), none, some (.int v5), none, none]) ⟨rfl, ⟨rfl, ⟨rfl, ⟨rfl, ⟨rfl, trivial⟩⟩⟩⟩⟩ (hj3 v5 M10)
          refine J_if_ge (pc := 80) 87 dX1_shortest_80 rfl (fun h => if_pos h) (fun h => if_neg h) (fun _ => ?_) (fun _ => ?_)
          · refine J_aload_n (pc := 87) dX1_shortest_87 rfl ?_
            refine J_get (pc := 88) (c := 0) (.ref 32) rfl in_X1 3 (by decide) q180 rfl (fun h => sh_k1 h 0 rfl) (fun h _ => fv_ref (Or.inr ⟨_, rfl⟩) (sh_r h 11 rfl)) dX1_shortest_88 ?_
            refine J_iload (pc := 91) dX1_shortest_91 rfl ?_
            refine J_ck (fun h1 => ?_)
            refine J_iald (pc := 93) (a := 32) (fun h => sh_a h 12 rfl h1) dX1_shortest_93 ?_
            refine J_aload_n (pc := 94) dX1_shortest_94 rfl ?_
            refine J_get (pc := 95) (c := 0) (.ref 32) rfl in_X1 3 (by decide) q180 rfl (fun h => sh_k1 h 0 rfl) (fun h _ => fv_ref (Or.inr ⟨_, rfl⟩) (sh_r h 11 rfl)) dX1_shortest_95 ?_
            refine J_iload (pc := 98) dX1_shortest_98 rfl ?_
            refine J_ck (fun h2 => ?_)
            refine J_iald (pc := 100) (a := 32) (fun h => sh_a h 12 rfl h2) dX1_shortest_100 ?_
            refine J_isub (pc := 101) dX1_shortest_101 ?_
            exact J_sub (A := [some (.ref 20), some (.int c1), some (.int c2), some (.int c3), some (.int v4), some (.int v5), some (.int v6), none]) ⟨rfl, ⟨rfl, ⟨rfl, ⟨rfl, ⟨rfl, ⟨rfl, ⟨rfl, trivial⟩⟩⟩⟩⟩⟩⟩ (hj2 ((M6.i 32 (ix v5)) - (M6.i 32 (ix v4))) M6)
          · refine J_iconst (pc := 83) (-1) dX1_shortest_83 (by decide) ?_
            refine J_goto (pc := 84) 102 dX1_shortest_84 rfl ?_
            exact J_sub (A := [some (.ref 20), some (.int c1), some (.int c2), some (.int c3), some (.int v4), some (.int v5), some (.int v6), none]) ⟨rfl, ⟨rfl, ⟨rfl, ⟨rfl, ⟨rfl, ⟨rfl, ⟨rfl, trivial⟩⟩⟩⟩⟩⟩⟩ (hj2 (-1) M6)
        · refine J_goto (pc := 75) 135 dX1_shortest_75 rfl ?_
          exact J_sub (A := [some (.ref 20), some (.int c1), some (.int c2), some (.int c3), some (.int v4), some (.int v5), none, none]) ⟨rfl, ⟨rfl, ⟨rfl, ⟨rfl, ⟨rfl, ⟨rfl, trivial⟩⟩⟩⟩⟩⟩ (hj1 v4 M6)

def x_shortest (p1 : Int32) (p2 : Int32) (p3 : Int32) (M : PM) : Option (Int32 × PM) :=
    bd (x_in (Int32.toInt64 p1) 0 9 M) fun v1 M1 =>
    if v1 = 0 then (some ((-1), M1))
    else (bd (x_isStation p2 M1) fun v2 M2 =>
    if v2 = 0 then (some ((-1), M2))
    else (bd (x_in (Int32.toInt64 p3) 0 9999 M2) fun v3 M3 =>
    if v3 = 0 then (some ((-1), M3))
    else (x_shortest_L41 p1 p2 p3 (fun (v13 : Int32) (M11 : PM) =>
    if 0 ≤ v13 then (lt (M11.si 20 67 0) fun M12 =>
    ck v13 10 <|
    bd (x_tells (Int32.toInt64 (M12.i 32 (ix v13))) M12) fun _ M13 =>
    bd (x_tollNow v13 p2 M13) fun v14 M14 =>
    bd (x_tells (Int32.toInt64 v14) M14) fun _ M15 =>
    some (v13, M15))
    else (some ((-2), M11))) FU (-2) 0 M3)))

set_option maxHeartbeats 4000000 in
theorem t_x_shortest (G : JG) (p1 : Int32) (p2 : Int32) (p3 : Int32) (M : PM) : T_x_shortest G  M 0 (ent [.ref 20, .int p1, .int p2, .int p3] 8) [] (x_shortest p1 p2 p3 M) := by
  unfold x_shortest
  refine J_iload_n (pc := 0) dX1_shortest_0 rfl ?_
  refine J_i2l (pc := 1) dX1_shortest_1 ?_
  refine J_lconst (pc := 2) 0 dX1_shortest_2 (by decide) ?_
  refine J_ldc2 (pc := 3) 9 q816 dX1_shortest_3 ?_
  refine J_callS (pc := 6) (n := 3) (vs := [.long (Int32.toInt64 p1), .long 0, .long 9]) (fun l => C_x_in l (Int32.toInt64 p1) 0 9 M) (lw_S q398 q399 q116 q400) nmh_X1_in rfl (by omega) (by decide) rfl (Nat.le_of_ble_eq_true rfl) dX1_shortest_6 (fun v1 M1 => ?_)
  refine J_if_eq (pc := 9) 32 dX1_shortest_9 rfl (fun h => if_pos h) (fun h => if_neg h) (fun _ => ?_) (fun _ => ?_)
  · refine J_iconst (pc := 32) (-1) dX1_shortest_32 (by decide) ?_
    exact J_iret (pc := 33) dX1_shortest_33
  · refine J_aload_n (pc := 12) dX1_shortest_12 rfl ?_
    refine J_iload_n (pc := 13) dX1_shortest_13 rfl ?_
    refine J_callV (pc := 14) (n := 1) (b := 20) (vs := [.int p2]) (ci := 0) (fun l => C_x_isStation l p2 M1) (lw_V q678 q680 qs17 q116 q681) nmv_X1_isStation rfl (by omega) (by decide) rfl (fun h => sh_k1 h 0 rfl) rfl (Nat.le_of_ble_eq_true rfl) dX1_shortest_14 (fun v2 M2 => ?_)
    refine J_if_eq (pc := 17) 32 dX1_shortest_17 rfl (fun h => if_pos h) (fun h => if_neg h) (fun _ => ?_) (fun _ => ?_)
    · refine J_iconst (pc := 32) (-1) dX1_shortest_32 (by decide) ?_
      exact J_iret (pc := 33) dX1_shortest_33
    · refine J_iload_n (pc := 20) dX1_shortest_20 rfl ?_
      refine J_i2l (pc := 21) dX1_shortest_21 ?_
      refine J_lconst (pc := 22) 0 dX1_shortest_22 (by decide) ?_
      refine J_ldc2 (pc := 23) 9999 q772 dX1_shortest_23 ?_
      refine J_callS (pc := 26) (n := 3) (vs := [.long (Int32.toInt64 p3), .long 0, .long 9999]) (fun l => C_x_in l (Int32.toInt64 p3) 0 9999 M2) (lw_S q398 q399 q116 q400) nmh_X1_in rfl (by omega) (by decide) rfl (Nat.le_of_ble_eq_true rfl) dX1_shortest_26 (fun v3 M3 => ?_)
      refine J_if_ne (pc := 29) 34 dX1_shortest_29 rfl (fun h => if_neg h) (fun h => if_pos h) (fun _ => ?_) (fun _ => ?_)
      · refine J_bipush (pc := 34) (-2) dX1_shortest_34 (by decide) ?_
        refine J_istore (pc := 36) dX1_shortest_36 (by decide) ?_
        refine J_iconst (pc := 38) 0 dX1_shortest_38 (by decide) ?_
        refine J_istore (pc := 39) dX1_shortest_39 (by decide) ?_
        refine J_sub (A := [some (.ref 20), some (.int p1), some (.int p2), some (.int p3), some (.int (-2)), some (.int 0), none, none]) ⟨rfl, ⟨rfl, ⟨rfl, ⟨rfl, ⟨rfl, ⟨rfl, trivial⟩⟩⟩⟩⟩⟩ (t_x_shortest_L41 G p1 p2 p3 _ ?_ FU (-2) 0 M3)
        · intro v13 M11
          refine J_iload (pc := 141) dX1_shortest_141 rfl ?_
          refine J_if_ge (pc := 143) 149 dX1_shortest_143 rfl (fun h => if_pos h) (fun h => if_neg h) (fun _ => ?_) (fun _ => ?_)
          · refine J_aload_n (pc := 149) dX1_shortest_149 rfl ?_
            refine J_iconst (pc := 150) 0 dX1_shortest_150 (by decide) ?_
            refine J_put (pc := 151) (a := 20) (v := .int 0) (M' := M11.si 20 67 0) (c := 0) rfl in_X1 tyX1_ok fnX1 67 (by decide) q251 rfl (Or.inl rfl) (fun h => sh_k1 h 0 rfl) (fun _ => rfl) (fun _ => rfl) ⟨⟨rfl, rfl⟩, rfl⟩ (fun _ hb => up2_same hb) (fun _ _ => rfl) (fun _ _ => rfl) (put_i (fun _ _ _ => rfl)) (fun h => Sh_si h) dX1_shortest_151 ?_
            refine J_ltM (fun M12 => ?_)
            refine J_aload_n (pc := 154) dX1_shortest_154 rfl ?_
            refine J_aload_n (pc := 155) dX1_shortest_155 rfl ?_
            refine J_get (pc := 156) (c := 0) (.ref 32) rfl in_X1 3 (by decide) q180 rfl (fun h => sh_k1 h 0 rfl) (fun h _ => fv_ref (Or.inr ⟨_, rfl⟩) (sh_r h 11 rfl)) dX1_shortest_156 ?_
            refine J_iload (pc := 159) dX1_shortest_159 rfl ?_
            refine J_ck (fun h3 => ?_)
            refine J_iald (pc := 161) (a := 32) (fun h => sh_a h 12 rfl h3) dX1_shortest_161 ?_
            refine J_i2l (pc := 162) dX1_shortest_162 ?_
            refine J_callV (pc := 163) (n := 1) (b := 20) (vs := [.long (Int32.toInt64 (M12.i 32 (ix v13)))]) (ci := 0) (fun l => C_x_tells l (Int32.toInt64 (M12.i 32 (ix v13))) M12) (lw_V q708 q710 qs20 q116 q711) nmv_X1_tells rfl (by omega) (by decide) rfl (fun h => sh_k1 h 0 rfl) rfl (Nat.le_of_ble_eq_true rfl) dX1_shortest_163 (fun _ M13 => ?_)
            refine J_aload_n (pc := 166) dX1_shortest_166 rfl ?_
            refine J_aload_n (pc := 167) dX1_shortest_167 rfl ?_
            refine J_iload (pc := 168) dX1_shortest_168 rfl ?_
            refine J_iload_n (pc := 170) dX1_shortest_170 rfl ?_
            refine J_callV (pc := 171) (n := 2) (b := 20) (vs := [.int v13, .int p2]) (ci := 0) (fun l => C_x_tollNow l v13 p2 M13) (lw_V q800 q802 qs34 q116 q803) nmv_X1_tollNow rfl (by omega) (by decide) rfl (fun h => sh_k1 h 0 rfl) rfl (Nat.le_of_ble_eq_true rfl) dX1_shortest_171 (fun v14 M14 => ?_)
            refine J_i2l (pc := 174) dX1_shortest_174 ?_
            refine J_callV (pc := 175) (n := 1) (b := 20) (vs := [.long (Int32.toInt64 v14)]) (ci := 0) (fun l => C_x_tells l (Int32.toInt64 v14) M14) (lw_V q708 q710 qs20 q116 q711) nmv_X1_tells rfl (by omega) (by decide) rfl (fun h => sh_k1 h 0 rfl) rfl (Nat.le_of_ble_eq_true rfl) dX1_shortest_175 (fun _ M15 => ?_)
            refine J_iload (pc := 178) dX1_shortest_178 rfl ?_
            exact J_iret (pc := 180) dX1_shortest_180
          · refine J_bipush (pc := 146) (-2) dX1_shortest_146 (by decide) ?_
            exact J_iret (pc := 148) dX1_shortest_148
      · refine J_iconst (pc := 32) (-1) dX1_shortest_32 (by decide) ?_
        exact J_iret (pc := 33) dX1_shortest_33

theorem C_x_shortest (l : Launch) (p1 : Int32) (p2 : Int32) (p3 : Int32) (M : PM) : Ctr l Sh yX1_shortest cX1_shortest 8 (some .int) 143 rvI [.ref 20, .int p1, .int p2, .int p3] M (x_shortest p1 p2 p3 M) := Ctr.of (by decide +kernel) (Nat.le_of_ble_eq_true rfl) (fun G => t_x_shortest G p1 p2 p3 M)

abbrev T_x_laysRow (G : JG) (M : PM) (pc : Nat) (L : List (Option Value)) (S : List Value) (o : Option (Int32 × PM)) : Prop := JJ G cX1_laysRow yX1_laysRow 6 7 (some .int) Sh (finR G Sh rvI) M pc L S o
def x_laysRow_L6 (c1 : Int32) (c2 : Nat) (c3 : Int32) : Nat → Int32 → Int32 → PM → Option (Int32 × PM)
  | 0, _, _, _ => none
  | n + 1, v1, v2, M1 =>
    ck c1 10 <|
    if (M1.i 32 (ix c1)) ≤ v2 then (some (v1, M1))
    else (jn (fun (v3 : Int32) (M2 : PM) =>
    lt (v2 + 1) fun v4 =>
    x_laysRow_L6 c1 c2 c3 n v3 v4 M2) fun j1 =>
    jn (fun (M3 : PM) =>
    ck ((6 * c1) + v2) 60 <|
    cka M3 c2 20 v1 <|
    lt (M3.si c2 (ix v1) (M3.i 31 (ix ((6 * c1) + v2)))) fun M4 =>
    lt (v1 + 1) fun v5 =>
    j1 v5 M4) fun j2 =>
    if c3 = 0 then (j2 M1)
    else (bd (x_vowelAt c1 v2 M1) fun v6 M5 =>
    if 0 ≤ v6 then (j2 M5)
    else (j1 v1 M5)))

set_option maxHeartbeats 4000000 in
theorem t_x_laysRow_L6 (G : JG) (c1 : Int32) (c2 : Nat) (c3 : Int32) : ∀ (n : Nat) (v1 : Int32) (v2 : Int32) (M1 : PM), T_x_laysRow G  M1 6 [some (.ref 20), some (.int c1), some (.ref c2), some (.int c3), some (.int v1), some (.int v2)] [] (x_laysRow_L6 c1 c2 c3 n v1 v2 M1) := by
  intro n
  induction n with
  | zero =>
    intro v1 v2 M1
    exact J_none
  | succ n ih =>
    intro v1 v2 M1
    rw [x_laysRow_L6]
    refine J_iload (pc := 6) dX1_laysRow_6 rfl ?_
    refine J_aload_n (pc := 8) dX1_laysRow_8 rfl ?_
    refine J_get (pc := 9) (c := 0) (.ref 32) rfl in_X1 3 (by decide) q180 rfl (fun h => sh_k1 h 0 rfl) (fun h _ => fv_ref (Or.inr ⟨_, rfl⟩) (sh_r h 11 rfl)) dX1_laysRow_9 ?_
    refine J_iload_n (pc := 12) dX1_laysRow_12 rfl ?_
    refine J_ck (fun h1 => ?_)
    refine J_iald (pc := 13) (a := 32) (fun h => sh_a h 12 rfl h1) dX1_laysRow_13 ?_
    refine J_icmp_ge (pc := 14) 59 dX1_laysRow_14 rfl (fun h => if_pos h) (fun h => if_neg h) (fun _ => ?_) (fun _ => ?_)
    · refine J_iload (pc := 59) dX1_laysRow_59 rfl ?_
      exact J_iret (pc := 61) dX1_laysRow_61
    · refine J_iload_n (pc := 17) dX1_laysRow_17 rfl ?_
      refine J_jn (P := fun J => ∀ (v3 : Int32) (M2 : PM), T_x_laysRow G  M2 53 [some (.ref 20), some (.int c1), some (.ref c2), some (.int c3), some (.int v3), some (.int v2)] [] (J v3 M2)) (fun v3 M2 => ?_) (fun j1 hj1 => ?_)
      · refine J_iincL (pc := 53) (n := 1) (by decide) dX1_laysRow_53 rfl (by decide) (fun v4 => ?_)
        refine J_goto (pc := 56) 6 dX1_laysRow_56 rfl ?_
        exact J_sub (A := [some (.ref 20), some (.int c1), some (.ref c2), some (.int c3), some (.int v3), some (.int v4)]) ⟨rfl, ⟨rfl, ⟨rfl, ⟨rfl, ⟨rfl, ⟨rfl, trivial⟩⟩⟩⟩⟩⟩ (ih v3 v4 M2)
      refine J_jn (P := fun J => ∀ (M3 : PM), T_x_laysRow G  M3 34 [some (.ref 20), some (.int c1), some (.ref c2), some (.int c3), some (.int v1), some (.int v2)] [] (J M3)) (fun M3 => ?_) (fun j2 hj2 => ?_)
      · refine J_aload_n (pc := 34) dX1_laysRow_34 rfl ?_
        refine J_iload (pc := 35) dX1_laysRow_35 rfl ?_
        refine J_aload_n (pc := 37) dX1_laysRow_37 rfl ?_
        refine J_get (pc := 38) (c := 0) (.ref 31) rfl in_X1 2 (by decide) q179 rfl (fun h => sh_k1 h 0 rfl) (fun h _ => fv_ref (Or.inr ⟨_, rfl⟩) (sh_r h 10 rfl)) dX1_laysRow_38 ?_
        refine J_bipush (pc := 41) 6 dX1_laysRow_41 (by decide) ?_
        refine J_iload_n (pc := 43) dX1_laysRow_43 rfl ?_
        refine J_imul (pc := 44) dX1_laysRow_44 ?_
        refine J_iload (pc := 45) dX1_laysRow_45 rfl ?_
        refine J_iadd (pc := 47) dX1_laysRow_47 ?_
        refine J_ck (fun h2 => ?_)
        refine J_iald (pc := 48) (a := 31) (fun h => sh_a h 11 rfl h2) dX1_laysRow_48 ?_
        refine J_cka (fun h3 h32 => ?_)
        refine J_iast (pc := 49) (a := c2) (fun _ => ⟨h3, h32⟩) (fun h => Sh_si h) dX1_laysRow_49 ?_
        refine J_ltM (fun M4 => ?_)
        refine J_iincL (pc := 50) (n := 1) (by decide) dX1_laysRow_50 rfl (by decide) (fun v5 => ?_)
        exact J_sub (A := [some (.ref 20), some (.int c1), some (.ref c2), some (.int c3), some (.int v5), some (.int v2)]) ⟨rfl, ⟨rfl, ⟨rfl, ⟨rfl, ⟨rfl, ⟨rfl, trivial⟩⟩⟩⟩⟩⟩ (hj1 v5 M4)
      refine J_if_eq (pc := 18) 34 dX1_laysRow_18 rfl (fun h => if_pos h) (fun h => if_neg h) (fun _ => ?_) (fun _ => ?_)
      · exact J_sub (A := [some (.ref 20), some (.int c1), some (.ref c2), some (.int c3), some (.int v1), some (.int v2)]) ⟨rfl, ⟨rfl, ⟨rfl, ⟨rfl, ⟨rfl, ⟨rfl, trivial⟩⟩⟩⟩⟩⟩ (hj2 M1)
      · refine J_aload_n (pc := 21) dX1_laysRow_21 rfl ?_
        refine J_iload_n (pc := 22) dX1_laysRow_22 rfl ?_
        refine J_iload (pc := 23) dX1_laysRow_23 rfl ?_
        refine J_callV (pc := 25) (n := 2) (b := 20) (vs := [.int c1, .int v2]) (ci := 0) (fun l => C_x_vowelAt l c1 v2 M1) (lw_V q686 q688 qs19 q116 q689) nmv_X1_vowelAt rfl (by omega) (by decide) rfl (fun h => sh_k1 h 0 rfl) rfl (Nat.le_of_ble_eq_true rfl) dX1_laysRow_25 (fun v6 M5 => ?_)
        refine J_if_ge (pc := 28) 34 dX1_laysRow_28 rfl (fun h => if_pos h) (fun h => if_neg h) (fun _ => ?_) (fun _ => ?_)
        · exact J_sub (A := [some (.ref 20), some (.int c1), some (.ref c2), some (.int c3), some (.int v1), some (.int v2)]) ⟨rfl, ⟨rfl, ⟨rfl, ⟨rfl, ⟨rfl, ⟨rfl, trivial⟩⟩⟩⟩⟩⟩ (hj2 M5)
        · refine J_goto (pc := 31) 53 dX1_laysRow_31 rfl ?_
          exact J_sub (A := [some (.ref 20), some (.int c1), some (.ref c2), some (.int c3), some (.int v1), some (.int v2)]) ⟨rfl, ⟨rfl, ⟨rfl, ⟨rfl, ⟨rfl, ⟨rfl, trivial⟩⟩⟩⟩⟩⟩ (hj1 v1 M5)

def x_laysRow (p1 : Int32) (p2 : Nat) (p3 : Int32) (M : PM) : Option (Int32 × PM) :=
    x_laysRow_L6 p1 p2 p3 FU 0 0 M

set_option maxHeartbeats 4000000 in
theorem t_x_laysRow (G : JG) (p1 : Int32) (p2 : Nat) (p3 : Int32) (M : PM) : T_x_laysRow G  M 0 (ent [.ref 20, .int p1, .ref p2, .int p3] 6) [] (x_laysRow p1 p2 p3 M) := by
  unfold x_laysRow
  refine J_iconst (pc := 0) 0 dX1_laysRow_0 (by decide) ?_
  refine J_istore (pc := 1) dX1_laysRow_1 (by decide) ?_
  refine J_iconst (pc := 3) 0 dX1_laysRow_3 (by decide) ?_
  refine J_istore (pc := 4) dX1_laysRow_4 (by decide) ?_
  refine J_sub (A := [some (.ref 20), some (.int p1), some (.ref p2), some (.int p3), some (.int 0), some (.int 0)]) ⟨rfl, ⟨rfl, ⟨rfl, ⟨rfl, ⟨rfl, ⟨rfl, trivial⟩⟩⟩⟩⟩⟩ (t_x_laysRow_L6 G p1 p2 p3  FU 0 0 M)

theorem C_x_laysRow (l : Launch) (p1 : Int32) (p2 : Nat) (p3 : Int32) (M : PM) : Ctr l Sh yX1_laysRow cX1_laysRow 6 (some .int) 7 rvI [.ref 20, .int p1, .ref p2, .int p3] M (x_laysRow p1 p2 p3 M) := Ctr.of (by decide +kernel) (Nat.le_of_ble_eq_true rfl) (fun G => t_x_laysRow G p1 p2 p3 M)

abbrev T_x_changesOf (G : JG) (M : PM) (pc : Nat) (L : List (Option Value)) (S : List Value) (o : Option (Int32 × PM)) : Prop := JJ G cX1_changesOf yX1_changesOf 11 8 (some .int) Sh (finR G Sh rvI) M pc L S o
def x_changesOf_L41 (c4 : Int32) (c5 : Int32) (c6 : Int32) (c7 : Int32) (k174 : PM → Option (Int32 × PM)) : Nat → Int32 → PM → Option (Int32 × PM)
  | 0, _, _ => none
  | n + 1, v4, M4 =>
    if c5 < v4 then (k174 M4)
    else (lt (c7 + v4) fun v5 =>
    jn (fun (v6 : Int32) (M5 : PM) =>
    ck ((c6 * c7) + v4) 49 <|
    lt (M5.si 63 (ix ((c6 * c7) + v4)) v6) fun M6 =>
    lt (v4 + 1) fun v7 =>
    x_changesOf_L41 c4 c5 c6 c7 k174 n v7 M6) fun j1 =>
    if c7 ≤ 0 then (j1 v5 M4)
    else (if v4 ≤ 0 then (j1 v5 M4)
    else (ck (((c6 * (c7 - 1)) + v4) - 1) 49 <|
    ck (c7 - 1) 6 <|
    ck (v4 - 1) 6 <|
    lt (if (M4.i 61 (ix (c7 - 1))) = (M4.i 62 (ix (v4 - 1))) then 0 else 1 : Int32) fun v8 =>
    lt ((M4.i 63 (ix (((c6 * (c7 - 1)) + v4) - 1))) + v8) fun v9 =>
    ck ((c6 * (c7 - 1)) + v4) 49 <|
    ck (((c6 * c7) + v4) - 1) 49 <|
    lt (imin v9 ((imin (M4.i 63 (ix ((c6 * (c7 - 1)) + v4))) (M4.i 63 (ix (((c6 * c7) + v4) - 1)))) + 1)) fun v10 =>
    j1 v10 M4)))

set_option maxHeartbeats 4000000 in
theorem t_x_changesOf_L41 (G : JG) (c4 : Int32) (c5 : Int32) (c6 : Int32) (c7 : Int32) (k174 : PM → Option (Int32 × PM)) (hk174 : ∀ Me, T_x_changesOf G  Me 174 [some (.ref 20), none, none, none, some (.int c4), some (.int c5), some (.int c6), some (.int c7), none, none, none] [] (k174 Me)) : ∀ (n : Nat) (v4 : Int32) (M4 : PM), T_x_changesOf G  M4 41 [some (.ref 20), none, none, none, some (.int c4), some (.int c5), some (.int c6), some (.int c7), some (.int v4), none, none] [] (x_changesOf_L41 c4 c5 c6 c7 k174 n v4 M4) := by
  intro n
  induction n with
  | zero =>
    intro v4 M4
    exact J_none
  | succ n ih =>
    intro v4 M4
    rw [x_changesOf_L41]
    refine J_iload (pc := 41) dX1_changesOf_41 rfl ?_
    refine J_iload (pc := 43) dX1_changesOf_43 rfl ?_
    refine J_icmp_gt (pc := 45) 174 dX1_changesOf_45 rfl (fun h => if_pos h) (fun h => if_neg h) (fun _ => ?_) (fun _ => ?_)
    · exact J_sub (A := [some (.ref 20), none, none, none, some (.int c4), some (.int c5), some (.int c6), some (.int c7), none, none, none]) ⟨rfl, ⟨rfl, ⟨rfl, ⟨rfl, ⟨rfl, trivial⟩⟩⟩⟩⟩ (hk174 M4)
    · refine J_iload (pc := 48) dX1_changesOf_48 rfl ?_
      refine J_iload (pc := 50) dX1_changesOf_50 rfl ?_
      refine J_iadd (pc := 52) dX1_changesOf_52 ?_
      refine J_lt (β := Int32) (v := (c7 + v4)) (L := fun _ => _) (S := fun v5 => [.int v5]) (fun v5 => ?_)
      refine J_istore (pc := 53) dX1_changesOf_53 (by decide) ?_
      refine J_iload (pc := 55) dX1_changesOf_55 rfl ?_
      refine J_jn (P := fun J => ∀ (v6 : Int32) (M5 : PM), T_x_changesOf G  M5 153 [some (.ref 20), none, none, none, some (.int c4), some (.int c5), some (.int c6), some (.int c7), some (.int v4), some (.int v6), none] [] (J v6 M5)) (fun v6 M5 => ?_) (fun j1 hj1 => ?_)
      · refine J_aload_n (pc := 153) dX1_changesOf_153 rfl ?_
        refine J_get (pc := 154) (c := 0) (.ref 63) rfl in_X1 54 (by decide) q238 rfl (fun h => sh_k1 h 0 rfl) (fun h _ => fv_ref (Or.inr ⟨_, rfl⟩) (sh_r h 42 rfl)) dX1_changesOf_154 ?_
        refine J_iload (pc := 157) dX1_changesOf_157 rfl ?_
        refine J_iload (pc := 159) dX1_changesOf_159 rfl ?_
        refine J_imul (pc := 161) dX1_changesOf_161 ?_
        refine J_iload (pc := 162) dX1_changesOf_162 rfl ?_
        refine J_iadd (pc := 164) dX1_changesOf_164 ?_
        refine J_iload (pc := 165) dX1_changesOf_165 rfl ?_
        refine J_ck (fun h1 => ?_)
        refine J_iast (pc := 167) (a := 63) (fun h => sh_a h 43 rfl h1) (fun h => Sh_si h) dX1_changesOf_167 ?_
        refine J_ltM (fun M6 => ?_)
        refine J_iincL (pc := 168) (n := 1) (by decide) dX1_changesOf_168 rfl (by decide) (fun v7 => ?_)
        refine J_goto (pc := 171) 41 dX1_changesOf_171 rfl ?_
        exact J_sub (A := [some (.ref 20), none, none, none, some (.int c4), some (.int c5), some (.int c6), some (.int c7), some (.int v7), none, none]) ⟨rfl, ⟨rfl, ⟨rfl, ⟨rfl, ⟨rfl, ⟨rfl, trivial⟩⟩⟩⟩⟩⟩ (ih v7 M6)
      refine J_if_le (pc := 57) 153 dX1_changesOf_57 rfl (fun h => if_pos h) (fun h => if_neg h) (fun _ => ?_) (fun _ => ?_)
      · exact J_sub (A := [some (.ref 20), none, none, none, some (.int c4), some (.int c5), some (.int c6), some (.int c7), some (.int v4), some (.int v5), none]) ⟨rfl, ⟨rfl, ⟨rfl, ⟨rfl, ⟨rfl, ⟨rfl, ⟨rfl, trivial⟩⟩⟩⟩⟩⟩⟩ (hj1 v5 M4)
      · refine J_iload (pc := 60) dX1_changesOf_60 rfl ?_
        refine J_if_le (pc := 62) 153 dX1_changesOf_62 rfl (fun h => if_pos h) (fun h => if_neg h) (fun _ => ?_) (fun _ => ?_)
        · exact J_sub (A := [some (.ref 20), none, none, none, some (.int c4), some (.int c5), some (.int c6), some (.int c7), some (.int v4), some (.int v5), none]) ⟨rfl, ⟨rfl, ⟨rfl, ⟨rfl, ⟨rfl, ⟨rfl, ⟨rfl, trivial⟩⟩⟩⟩⟩⟩⟩ (hj1 v5 M4)
        · refine J_aload_n (pc := 65) dX1_changesOf_65 rfl ?_
          refine J_get (pc := 66) (c := 0) (.ref 63) rfl in_X1 54 (by decide) q238 rfl (fun h => sh_k1 h 0 rfl) (fun h _ => fv_ref (Or.inr ⟨_, rfl⟩) (sh_r h 42 rfl)) dX1_changesOf_66 ?_
          refine J_iload (pc := 69) dX1_changesOf_69 rfl ?_
          refine J_iload (pc := 71) dX1_changesOf_71 rfl ?_
          refine J_iconst (pc := 73) 1 dX1_changesOf_73 (by decide) ?_
          refine J_isub (pc := 74) dX1_changesOf_74 ?_
          refine J_imul (pc := 75) dX1_changesOf_75 ?_
          refine J_iload (pc := 76) dX1_changesOf_76 rfl ?_
          refine J_iadd (pc := 78) dX1_changesOf_78 ?_
          refine J_iconst (pc := 79) 1 dX1_changesOf_79 (by decide) ?_
          refine J_isub (pc := 80) dX1_changesOf_80 ?_
          refine J_ck (fun h2 => ?_)
          refine J_iald (pc := 81) (a := 63) (fun h => sh_a h 43 rfl h2) dX1_changesOf_81 ?_
          refine J_aload_n (pc := 82) dX1_changesOf_82 rfl ?_
          refine J_get (pc := 83) (c := 0) (.ref 61) rfl in_X1 52 (by decide) q236 rfl (fun h => sh_k1 h 0 rfl) (fun h _ => fv_ref (Or.inr ⟨_, rfl⟩) (sh_r h 40 rfl)) dX1_changesOf_83 ?_
          refine J_iload (pc := 86) dX1_changesOf_86 rfl ?_
          refine J_iconst (pc := 88) 1 dX1_changesOf_88 (by decide) ?_
          refine J_isub (pc := 89) dX1_changesOf_89 ?_
          refine J_ck (fun h3 => ?_)
          refine J_iald (pc := 90) (a := 61) (fun h => sh_a h 41 rfl h3) dX1_changesOf_90 ?_
          refine J_aload_n (pc := 91) dX1_changesOf_91 rfl ?_
          refine J_get (pc := 92) (c := 0) (.ref 62) rfl in_X1 53 (by decide) q237 rfl (fun h => sh_k1 h 0 rfl) (fun h _ => fv_ref (Or.inr ⟨_, rfl⟩) (sh_r h 41 rfl)) dX1_changesOf_92 ?_
          refine J_iload (pc := 95) dX1_changesOf_95 rfl ?_
          refine J_iconst (pc := 97) 1 dX1_changesOf_97 (by decide) ?_
          refine J_isub (pc := 98) dX1_changesOf_98 ?_
          refine J_ck (fun h4 => ?_)
          refine J_iald (pc := 99) (a := 62) (fun h => sh_a h 42 rfl h4) dX1_changesOf_99 ?_
          refine J_ltj (β := Int32) (P := fun J => ∀ v8 : Int32, T_x_changesOf G M4 108 [some (.ref 20), none, none, none, some (.int c4), some (.int c5), some (.int c6), some (.int c7), some (.int v4), none, none] [.int v8, .int (M4.i 63 (ix (((c6 * (c7 - 1)) + v4) - 1)))] (J v8)) (fun v8 => ?_) (fun j2 hj2 => ?_)
          · refine J_iadd (pc := 108) dX1_changesOf_108 ?_
            refine J_lt (β := Int32) (v := ((M4.i 63 (ix (((c6 * (c7 - 1)) + v4) - 1))) + v8)) (L := fun _ => _) (S := fun v9 => [.int v9]) (fun v9 => ?_)
            refine J_istore (pc := 109) dX1_changesOf_109 (by decide) ?_
            refine J_iload (pc := 111) dX1_changesOf_111 rfl ?_
            refine J_aload_n (pc := 113) dX1_changesOf_113 rfl ?_
            refine J_get (pc := 114) (c := 0) (.ref 63) rfl in_X1 54 (by decide) q238 rfl (fun h => sh_k1 h 0 rfl) (fun h _ => fv_ref (Or.inr ⟨_, rfl⟩) (sh_r h 42 rfl)) dX1_changesOf_114 ?_
            refine J_iload (pc := 117) dX1_changesOf_117 rfl ?_
            refine J_iload (pc := 119) dX1_changesOf_119 rfl ?_
            refine J_iconst (pc := 121) 1 dX1_changesOf_121 (by decide) ?_
            refine J_isub (pc := 122) dX1_changesOf_122 ?_
            refine J_imul (pc := 123) dX1_changesOf_123 ?_
            refine J_iload (pc := 124) dX1_changesOf_124 rfl ?_
            refine J_iadd (pc := 126) dX1_changesOf_126 ?_
            refine J_ck (fun h5 => ?_)
            refine J_iald (pc := 127) (a := 63) (fun h => sh_a h 43 rfl h5) dX1_changesOf_127 ?_
            refine J_aload_n (pc := 128) dX1_changesOf_128 rfl ?_
            refine J_get (pc := 129) (c := 0) (.ref 63) rfl in_X1 54 (by decide) q238 rfl (fun h => sh_k1 h 0 rfl) (fun h _ => fv_ref (Or.inr ⟨_, rfl⟩) (sh_r h 42 rfl)) dX1_changesOf_129 ?_
            refine J_iload (pc := 132) dX1_changesOf_132 rfl ?_
            refine J_iload (pc := 134) dX1_changesOf_134 rfl ?_
            refine J_imul (pc := 136) dX1_changesOf_136 ?_
            refine J_iload (pc := 137) dX1_changesOf_137 rfl ?_
            refine J_iadd (pc := 139) dX1_changesOf_139 ?_
            refine J_iconst (pc := 140) 1 dX1_changesOf_140 (by decide) ?_
            refine J_isub (pc := 141) dX1_changesOf_141 ?_
            refine J_ck (fun h6 => ?_)
            refine J_iald (pc := 142) (a := 63) (fun h => sh_a h 43 rfl h6) dX1_changesOf_142 ?_
            refine J_min (pc := 143) (by omega) q409 q410 q119 q411 (Nat.le_of_ble_eq_true rfl) dX1_changesOf_143 ?_
            refine J_iconst (pc := 146) 1 dX1_changesOf_146 (by decide) ?_
            refine J_iadd (pc := 147) dX1_changesOf_147 ?_
            refine J_min (pc := 148) (by omega) q409 q410 q119 q411 (Nat.le_of_ble_eq_true rfl) dX1_changesOf_148 ?_
            refine J_lt (β := Int32) (v := (imin v9 ((imin (M4.i 63 (ix ((c6 * (c7 - 1)) + v4))) (M4.i 63 (ix (((c6 * c7) + v4) - 1)))) + 1))) (L := fun _ => _) (S := fun v10 => [.int v10]) (fun v10 => ?_)
            refine J_istore (pc := 151) dX1_changesOf_151 (by decide) ?_
            exact J_sub (A := [some (.ref 20), none, none, none, some (.int c4), some (.int c5), some (.int c6), some (.int c7), some (.int v4), some (.int v10), none]) ⟨rfl, ⟨rfl, ⟨rfl, ⟨rfl, ⟨rfl, ⟨rfl, ⟨rfl, trivial⟩⟩⟩⟩⟩⟩⟩ (hj1 v10 M4)
          refine J_icmp_ne (pc := 100) 107 dX1_changesOf_100 rfl (fun h => congrArg j2 (if_neg h)) (fun h => congrArg j2 (if_pos h)) (fun _ => ?_) (fun _ => ?_)
          · refine J_iconst (pc := 107) 1 dX1_changesOf_107 (by decide) ?_
            exact J_sub (A := [some (.ref 20), none, none, none, some (.int c4), some (.int c5), some (.int c6), some (.int c7), some (.int v4), none, none]) ⟨rfl, ⟨rfl, ⟨rfl, ⟨rfl, ⟨rfl, ⟨rfl, trivial⟩⟩⟩⟩⟩⟩ (hj2 1)
          · refine J_iconst (pc := 103) 0 dX1_changesOf_103 (by decide) ?_
            refine J_goto (pc := 104) 108 dX1_changesOf_104 rfl ?_
            exact J_sub (A := [some (.ref 20), none, none, none, some (.int c4), some (.int c5), some (.int c6), some (.int c7), some (.int v4), none, none]) ⟨rfl, ⟨rfl, ⟨rfl, ⟨rfl, ⟨rfl, ⟨rfl, trivial⟩⟩⟩⟩⟩⟩ (hj2 0)

def x_changesOf_L31 (c4 : Int32) (c5 : Int32) (c6 : Int32) (k180 : PM → Option (Int32 × PM)) : Nat → Int32 → PM → Option (Int32 × PM)
  | 0, _, _ => none
  | n + 1, v3, M3 =>
    if c4 < v3 then (k180 M3)
    else (x_changesOf_L41 c4 c5 c6 v3 (fun (M7 : PM) =>
    lt (v3 + 1) fun v11 =>
    x_changesOf_L31 c4 c5 c6 k180 n v11 M7) FU 0 M3)

set_option maxHeartbeats 4000000 in
theorem t_x_changesOf_L31 (G : JG) (c4 : Int32) (c5 : Int32) (c6 : Int32) (k180 : PM → Option (Int32 × PM)) (hk180 : ∀ Me, T_x_changesOf G  Me 180 [some (.ref 20), none, none, none, some (.int c4), some (.int c5), some (.int c6), none, none, none, none] [] (k180 Me)) : ∀ (n : Nat) (v3 : Int32) (M3 : PM), T_x_changesOf G  M3 31 [some (.ref 20), none, none, none, some (.int c4), some (.int c5), some (.int c6), some (.int v3), none, none, none] [] (x_changesOf_L31 c4 c5 c6 k180 n v3 M3) := by
  intro n
  induction n with
  | zero =>
    intro v3 M3
    exact J_none
  | succ n ih =>
    intro v3 M3
    rw [x_changesOf_L31]
    refine J_iload (pc := 31) dX1_changesOf_31 rfl ?_
    refine J_iload (pc := 33) dX1_changesOf_33 rfl ?_
    refine J_icmp_gt (pc := 35) 180 dX1_changesOf_35 rfl (fun h => if_pos h) (fun h => if_neg h) (fun _ => ?_) (fun _ => ?_)
    · exact J_sub (A := [some (.ref 20), none, none, none, some (.int c4), some (.int c5), some (.int c6), none, none, none, none]) ⟨rfl, ⟨rfl, ⟨rfl, ⟨rfl, trivial⟩⟩⟩⟩ (hk180 M3)
    · refine J_iconst (pc := 38) 0 dX1_changesOf_38 (by decide) ?_
      refine J_istore (pc := 39) dX1_changesOf_39 (by decide) ?_
      refine J_sub (A := [some (.ref 20), none, none, none, some (.int c4), some (.int c5), some (.int c6), some (.int v3), some (.int 0), none, none]) ⟨rfl, ⟨rfl, ⟨rfl, ⟨rfl, ⟨rfl, ⟨rfl, trivial⟩⟩⟩⟩⟩⟩ (t_x_changesOf_L41 G c4 c5 c6 v3 _ ?_ FU 0 M3)
      · intro M7
        refine J_iincL (pc := 174) (n := 1) (by decide) dX1_changesOf_174 rfl (by decide) (fun v11 => ?_)
        refine J_goto (pc := 177) 31 dX1_changesOf_177 rfl ?_
        exact J_sub (A := [some (.ref 20), none, none, none, some (.int c4), some (.int c5), some (.int c6), some (.int v11), none, none, none]) ⟨rfl, ⟨rfl, ⟨rfl, ⟨rfl, ⟨rfl, trivial⟩⟩⟩⟩⟩ (ih v11 M7)

def x_changesOf (p1 : Int32) (p2 : Int32) (p3 : Int32) (M : PM) : Option (Int32 × PM) :=
    bd (x_laysRow p1 61 p3 M) fun v1 M1 =>
    bd (x_laysRow p2 62 p3 M1) fun v2 M2 =>
    x_changesOf_L31 v1 v2 7 (fun (M8 : PM) =>
    ck ((7 * v1) + v2) 49 <|
    some ((M8.i 63 (ix ((7 * v1) + v2))), M8)) FU 0 M2

set_option maxHeartbeats 4000000 in
theorem t_x_changesOf (G : JG) (p1 : Int32) (p2 : Int32) (p3 : Int32) (M : PM) : T_x_changesOf G  M 0 (ent [.ref 20, .int p1, .int p2, .int p3] 11) [] (x_changesOf p1 p2 p3 M) := by
  unfold x_changesOf
  refine J_aload_n (pc := 0) dX1_changesOf_0 rfl ?_
  refine J_iload_n (pc := 1) dX1_changesOf_1 rfl ?_
  refine J_aload_n (pc := 2) dX1_changesOf_2 rfl ?_
  refine J_get (pc := 3) (c := 0) (.ref 61) rfl in_X1 52 (by decide) q236 rfl (fun h => sh_k1 h 0 rfl) (fun h _ => fv_ref (Or.inr ⟨_, rfl⟩) (sh_r h 40 rfl)) dX1_changesOf_3 ?_
  refine J_iload_n (pc := 6) dX1_changesOf_6 rfl ?_
  refine J_callV (pc := 7) (n := 3) (b := 20) (vs := [.int p1, .ref 61, .int p3]) (ci := 0) (fun l => C_x_laysRow l p1 61 p3 M) (lw_V q845 q847 qs40 q116 q848) nmv_X1_laysRow rfl (by omega) (by decide) rfl (fun h => sh_k1 h 0 rfl) rfl (Nat.le_of_ble_eq_true rfl) dX1_changesOf_7 (fun v1 M1 => ?_)
  refine J_istore (pc := 10) dX1_changesOf_10 (by decide) ?_
  refine J_aload_n (pc := 12) dX1_changesOf_12 rfl ?_
  refine J_iload_n (pc := 13) dX1_changesOf_13 rfl ?_
  refine J_aload_n (pc := 14) dX1_changesOf_14 rfl ?_
  refine J_get (pc := 15) (c := 0) (.ref 62) rfl in_X1 53 (by decide) q237 rfl (fun h => sh_k1 h 0 rfl) (fun h _ => fv_ref (Or.inr ⟨_, rfl⟩) (sh_r h 41 rfl)) dX1_changesOf_15 ?_
  refine J_iload_n (pc := 18) dX1_changesOf_18 rfl ?_
  refine J_callV (pc := 19) (n := 3) (b := 20) (vs := [.int p2, .ref 62, .int p3]) (ci := 0) (fun l => C_x_laysRow l p2 62 p3 M1) (lw_V q845 q847 qs40 q116 q848) nmv_X1_laysRow rfl (by omega) (by decide) rfl (fun h => sh_k1 h 0 rfl) rfl (Nat.le_of_ble_eq_true rfl) dX1_changesOf_19 (fun v2 M2 => ?_)
  refine J_istore (pc := 22) dX1_changesOf_22 (by decide) ?_
  refine J_bipush (pc := 24) 7 dX1_changesOf_24 (by decide) ?_
  refine J_istore (pc := 26) dX1_changesOf_26 (by decide) ?_
  refine J_iconst (pc := 28) 0 dX1_changesOf_28 (by decide) ?_
  refine J_istore (pc := 29) dX1_changesOf_29 (by decide) ?_
  refine J_sub (A := [some (.ref 20), none, none, none, some (.int v1), some (.int v2), some (.int 7), some (.int 0), none, none, none]) ⟨rfl, ⟨rfl, ⟨rfl, ⟨rfl, ⟨rfl, trivial⟩⟩⟩⟩⟩ (t_x_changesOf_L31 G v1 v2 7 _ ?_ FU 0 M2)
  · intro M8
    refine J_aload_n (pc := 180) dX1_changesOf_180 rfl ?_
    refine J_get (pc := 181) (c := 0) (.ref 63) rfl in_X1 54 (by decide) q238 rfl (fun h => sh_k1 h 0 rfl) (fun h _ => fv_ref (Or.inr ⟨_, rfl⟩) (sh_r h 42 rfl)) dX1_changesOf_181 ?_
    refine J_iload (pc := 184) dX1_changesOf_184 rfl ?_
    refine J_iload (pc := 186) dX1_changesOf_186 rfl ?_
    refine J_imul (pc := 188) dX1_changesOf_188 ?_
    refine J_iload (pc := 189) dX1_changesOf_189 rfl ?_
    refine J_iadd (pc := 191) dX1_changesOf_191 ?_
    refine J_ck (fun h7 => ?_)
    refine J_iald (pc := 192) (a := 63) (fun h => sh_a h 43 rfl h7) dX1_changesOf_192 ?_
    exact J_iret (pc := 193) dX1_changesOf_193

theorem C_x_changesOf (l : Launch) (p1 : Int32) (p2 : Int32) (p3 : Int32) (M : PM) : Ctr l Sh yX1_changesOf cX1_changesOf 11 (some .int) 8 rvI [.ref 20, .int p1, .int p2, .int p3] M (x_changesOf p1 p2 p3 M) := Ctr.of (by decide +kernel) (Nat.le_of_ble_eq_true rfl) (fun G => t_x_changesOf G p1 p2 p3 M)

abbrev T_x_differ (G : JG) (M : PM) (pc : Nat) (L : List (Option Value)) (S : List Value) (o : Option (Int32 × PM)) : Prop := JJ G cX1_differ yX1_differ 3 9 (some .int) Sh (finR G Sh rvI) M pc L S o
def x_differ (p1 : Int32) (p2 : Int32) (M : PM) : Option (Int32 × PM) :=
    bd (x_isWord p1 M) fun v1 M1 =>
    if v1 = 0 then (some ((-1), M1))
    else (bd (x_isWord p2 M1) fun v2 M2 =>
    if v2 = 0 then (some ((-1), M2))
    else (lt (M2.si 20 67 0) fun M3 =>
    bd (x_changesOf p1 p2 1 M3) fun v3 M4 =>
    bd (x_tells (Int32.toInt64 v3) M4) fun _ M5 =>
    bd (x_changesOf p1 p2 0 M5) fun v4 M6 =>
    some (v4, M6)))

set_option maxHeartbeats 4000000 in
theorem t_x_differ (G : JG) (p1 : Int32) (p2 : Int32) (M : PM) : T_x_differ G  M 0 (ent [.ref 20, .int p1, .int p2] 3) [] (x_differ p1 p2 M) := by
  unfold x_differ
  refine J_aload_n (pc := 0) dX1_differ_0 rfl ?_
  refine J_iload_n (pc := 1) dX1_differ_1 rfl ?_
  refine J_callV (pc := 2) (n := 1) (b := 20) (vs := [.int p1]) (ci := 0) (fun l => C_x_isWord l p1 M) (lw_V q674 q676 qs16 q116 q677) nmv_X1_isWord rfl (by omega) (by decide) rfl (fun h => sh_k1 h 0 rfl) rfl (Nat.le_of_ble_eq_true rfl) dX1_differ_2 (fun v1 M1 => ?_)
  refine J_if_eq (pc := 5) 16 dX1_differ_5 rfl (fun h => if_pos h) (fun h => if_neg h) (fun _ => ?_) (fun _ => ?_)
  · refine J_iconst (pc := 16) (-1) dX1_differ_16 (by decide) ?_
    exact J_iret (pc := 17) dX1_differ_17
  · refine J_aload_n (pc := 8) dX1_differ_8 rfl ?_
    refine J_iload_n (pc := 9) dX1_differ_9 rfl ?_
    refine J_callV (pc := 10) (n := 1) (b := 20) (vs := [.int p2]) (ci := 0) (fun l => C_x_isWord l p2 M1) (lw_V q674 q676 qs16 q116 q677) nmv_X1_isWord rfl (by omega) (by decide) rfl (fun h => sh_k1 h 0 rfl) rfl (Nat.le_of_ble_eq_true rfl) dX1_differ_10 (fun v2 M2 => ?_)
    refine J_if_ne (pc := 13) 18 dX1_differ_13 rfl (fun h => if_neg h) (fun h => if_pos h) (fun _ => ?_) (fun _ => ?_)
    · refine J_aload_n (pc := 18) dX1_differ_18 rfl ?_
      refine J_iconst (pc := 19) 0 dX1_differ_19 (by decide) ?_
      refine J_put (pc := 20) (a := 20) (v := .int 0) (M' := M2.si 20 67 0) (c := 0) rfl in_X1 tyX1_ok fnX1 67 (by decide) q251 rfl (Or.inl rfl) (fun h => sh_k1 h 0 rfl) (fun _ => rfl) (fun _ => rfl) ⟨⟨rfl, rfl⟩, rfl⟩ (fun _ hb => up2_same hb) (fun _ _ => rfl) (fun _ _ => rfl) (put_i (fun _ _ _ => rfl)) (fun h => Sh_si h) dX1_differ_20 ?_
      refine J_ltM (fun M3 => ?_)
      refine J_aload_n (pc := 23) dX1_differ_23 rfl ?_
      refine J_aload_n (pc := 24) dX1_differ_24 rfl ?_
      refine J_iload_n (pc := 25) dX1_differ_25 rfl ?_
      refine J_iload_n (pc := 26) dX1_differ_26 rfl ?_
      refine J_iconst (pc := 27) 1 dX1_differ_27 (by decide) ?_
      refine J_callV (pc := 28) (n := 3) (b := 20) (vs := [.int p1, .int p2, .int 1]) (ci := 0) (fun l => C_x_changesOf l p1 p2 1 M3) (lw_V q841 q843 qs39 q116 q844) nmv_X1_changesOf rfl (by omega) (by decide) rfl (fun h => sh_k1 h 0 rfl) rfl (Nat.le_of_ble_eq_true rfl) dX1_differ_28 (fun v3 M4 => ?_)
      refine J_i2l (pc := 31) dX1_differ_31 ?_
      refine J_callV (pc := 32) (n := 1) (b := 20) (vs := [.long (Int32.toInt64 v3)]) (ci := 0) (fun l => C_x_tells l (Int32.toInt64 v3) M4) (lw_V q708 q710 qs20 q116 q711) nmv_X1_tells rfl (by omega) (by decide) rfl (fun h => sh_k1 h 0 rfl) rfl (Nat.le_of_ble_eq_true rfl) dX1_differ_32 (fun _ M5 => ?_)
      refine J_aload_n (pc := 35) dX1_differ_35 rfl ?_
      refine J_iload_n (pc := 36) dX1_differ_36 rfl ?_
      refine J_iload_n (pc := 37) dX1_differ_37 rfl ?_
      refine J_iconst (pc := 38) 0 dX1_differ_38 (by decide) ?_
      refine J_callV (pc := 39) (n := 3) (b := 20) (vs := [.int p1, .int p2, .int 0]) (ci := 0) (fun l => C_x_changesOf l p1 p2 0 M5) (lw_V q841 q843 qs39 q116 q844) nmv_X1_changesOf rfl (by omega) (by decide) rfl (fun h => sh_k1 h 0 rfl) rfl (Nat.le_of_ble_eq_true rfl) dX1_differ_39 (fun v4 M6 => ?_)
      exact J_iret (pc := 42) dX1_differ_42
    · refine J_iconst (pc := 16) (-1) dX1_differ_16 (by decide) ?_
      exact J_iret (pc := 17) dX1_differ_17

theorem C_x_differ (l : Launch) (p1 : Int32) (p2 : Int32) (M : PM) : Ctr l Sh yX1_differ cX1_differ 3 (some .int) 9 rvI [.ref 20, .int p1, .int p2] M (x_differ p1 p2 M) := Ctr.of (by decide +kernel) (Nat.le_of_ble_eq_true rfl) (fun G => t_x_differ G p1 p2 M)

abbrev T_x_near (G : JG) (M : PM) (pc : Nat) (L : List (Option Value)) (S : List Value) (o : Option (Int32 × PM)) : Prop := JJ G cX1_near yX1_near 6 9 (some .int) Sh (finR G Sh rvI) M pc L S o
def x_near_L20 (c1 : Int32) (k77 : Int32 → Int32 → PM → Option (Int32 × PM)) : Nat → Int32 → Int32 → Int32 → PM → Option (Int32 × PM)
  | 0, _, _, _, _ => none
  | n + 1, v2, v3, v4, M2 =>
    if (M2.i 20 11) ≤ v4 then (k77 v2 v3 M2)
    else (jn (fun (v5 : Int32) (M3 : PM) =>
    lt (if v3 ≤ v5 then v2 else v4 : Int32) fun v6 =>
    lt (imin v3 v5) fun v7 =>
    lt (v4 + 1) fun v8 =>
    x_near_L20 c1 k77 n v6 v7 v8 M3) fun j1 =>
    if v4 = c1 then (j1 1000000000 M2)
    else (bd (x_changesOf c1 v4 0 M2) fun v9 M4 =>
    j1 v9 M4))

set_option maxHeartbeats 4000000 in
theorem t_x_near_L20 (G : JG) (c1 : Int32) (k77 : Int32 → Int32 → PM → Option (Int32 × PM)) (hk77 : ∀ z2 z3 Me, T_x_near G  Me 77 [some (.ref 20), some (.int c1), some (.int z2), some (.int z3), none, none] [] (k77 z2 z3 Me)) : ∀ (n : Nat) (v2 : Int32) (v3 : Int32) (v4 : Int32) (M2 : PM), T_x_near G  M2 20 [some (.ref 20), some (.int c1), some (.int v2), some (.int v3), some (.int v4), none] [] (x_near_L20 c1 k77 n v2 v3 v4 M2) := by
  intro n
  induction n with
  | zero =>
    intro v2 v3 v4 M2
    exact J_none
  | succ n ih =>
    intro v2 v3 v4 M2
    rw [x_near_L20]
    refine J_iload (pc := 20) dX1_near_20 rfl ?_
    refine J_aload_n (pc := 22) dX1_near_22 rfl ?_
    refine J_get (pc := 23) (c := 0) (.int (M2.i 20 11)) rfl in_X1 11 (by decide) q188 rfl (fun h => sh_k1 h 0 rfl) (fun _ _ => rfl) dX1_near_23 ?_
    refine J_icmp_ge (pc := 26) 77 dX1_near_26 rfl (fun h => if_pos h) (fun h => if_neg h) (fun _ => ?_) (fun _ => ?_)
    · exact J_sub (A := [some (.ref 20), some (.int c1), some (.int v2), some (.int v3), none, none]) ⟨rfl, ⟨rfl, ⟨rfl, ⟨rfl, trivial⟩⟩⟩⟩ (hk77 v2 v3 M2)
    · refine J_iload (pc := 29) dX1_near_29 rfl ?_
      refine J_iload_n (pc := 31) dX1_near_31 rfl ?_
      refine J_jn (P := fun J => ∀ (v5 : Int32) (M3 : PM), T_x_near G  M3 49 [some (.ref 20), some (.int c1), some (.int v2), some (.int v3), some (.int v4), none] [.int v5] (J v5 M3)) (fun v5 M3 => ?_) (fun j1 hj1 => ?_)
      · refine J_istore (pc := 49) dX1_near_49 (by decide) ?_
        refine J_iload (pc := 51) dX1_near_51 rfl ?_
        refine J_iload_n (pc := 53) dX1_near_53 rfl ?_
        refine J_ltj (β := Int32) (P := fun J => ∀ v6 : Int32, T_x_near G M3 63 [some (.ref 20), some (.int c1), none, some (.int v3), some (.int v4), some (.int v5)] [.int v6] (J v6)) (fun v6 => ?_) (fun j2 hj2 => ?_)
        · refine J_istore_n (pc := 63) dX1_near_63 (by decide) ?_
          refine J_iload_n (pc := 64) dX1_near_64 rfl ?_
          refine J_iload (pc := 65) dX1_near_65 rfl ?_
          refine J_min (pc := 67) (by omega) q409 q410 q119 q411 (Nat.le_of_ble_eq_true rfl) dX1_near_67 ?_
          refine J_lt (β := Int32) (v := (imin v3 v5)) (L := fun _ => _) (S := fun v7 => [.int v7]) (fun v7 => ?_)
          refine J_istore_n (pc := 70) dX1_near_70 (by decide) ?_
          refine J_iincL (pc := 71) (n := 1) (by decide) dX1_near_71 rfl (by decide) (fun v8 => ?_)
          refine J_goto (pc := 74) 20 dX1_near_74 rfl ?_
          exact J_sub (A := [some (.ref 20), some (.int c1), some (.int v6), some (.int v7), some (.int v8), none]) ⟨rfl, ⟨rfl, ⟨rfl, ⟨rfl, ⟨rfl, trivial⟩⟩⟩⟩⟩ (ih v6 v7 v8 M3)
        refine J_icmp_ge (pc := 54) 62 dX1_near_54 rfl (fun h => congrArg j2 (if_pos h)) (fun h => congrArg j2 (if_neg h)) (fun _ => ?_) (fun _ => ?_)
        · refine J_iload_n (pc := 62) dX1_near_62 rfl ?_
          exact J_sub (A := [some (.ref 20), some (.int c1), none, some (.int v3), some (.int v4), some (.int v5)]) ⟨rfl, ⟨rfl, ⟨rfl, ⟨rfl, ⟨rfl, trivial⟩⟩⟩⟩⟩ (hj2 v2)
        · refine J_iload (pc := 57) dX1_near_57 rfl ?_
          refine J_goto (pc := 59) 63 dX1_near_59 rfl ?_
          exact J_sub (A := [some (.ref 20), some (.int c1), none, some (.int v3), some (.int v4), some (.int v5)]) ⟨rfl, ⟨rfl, ⟨rfl, ⟨rfl, ⟨rfl, trivial⟩⟩⟩⟩⟩ (hj2 v4)
      refine J_icmp_ne (pc := 32) 41 dX1_near_32 rfl (fun h => if_neg h) (fun h => if_pos h) (fun _ => ?_) (fun _ => ?_)
      · refine J_aload_n (pc := 41) dX1_near_41 rfl ?_
        refine J_iload_n (pc := 42) dX1_near_42 rfl ?_
        refine J_iload (pc := 43) dX1_near_43 rfl ?_
        refine J_iconst (pc := 45) 0 dX1_near_45 (by decide) ?_
        refine J_callV (pc := 46) (n := 3) (b := 20) (vs := [.int c1, .int v4, .int 0]) (ci := 0) (fun l => C_x_changesOf l c1 v4 0 M2) (lw_V q841 q843 qs39 q116 q844) nmv_X1_changesOf rfl (by omega) (by decide) rfl (fun h => sh_k1 h 0 rfl) rfl (Nat.le_of_ble_eq_true rfl) dX1_near_46 (fun v9 M4 => ?_)
        exact J_sub (A := [some (.ref 20), some (.int c1), some (.int v2), some (.int v3), some (.int v4), none]) ⟨rfl, ⟨rfl, ⟨rfl, ⟨rfl, ⟨rfl, trivial⟩⟩⟩⟩⟩ (hj1 v9 M4)
      · refine J_ldcw (pc := 35) 1000000000 q799 dX1_near_35 ?_
        refine J_goto (pc := 38) 49 dX1_near_38 rfl ?_
        exact J_sub (A := [some (.ref 20), some (.int c1), some (.int v2), some (.int v3), some (.int v4), none]) ⟨rfl, ⟨rfl, ⟨rfl, ⟨rfl, ⟨rfl, trivial⟩⟩⟩⟩⟩ (hj1 1000000000 M2)

def x_near (p1 : Int32) (M : PM) : Option (Int32 × PM) :=
    bd (x_isWord p1 M) fun v1 M1 =>
    if v1 = 0 then (some ((-1), M1))
    else (x_near_L20 p1 (fun (v10 : Int32) (v11 : Int32) (M5 : PM) =>
    if 0 ≤ v10 then (lt (M5.si 20 67 0) fun M6 =>
    bd (x_tells (Int32.toInt64 v11) M6) fun _ M7 =>
    ck p1 10 <|
    bd (x_means v10 (M7.i 33 (ix p1)) M7) fun v12 M8 =>
    jn (fun (w1 : Int64) (M9 : PM) =>
    bd (x_tells w1 M9) fun _ M10 =>
    some (v10, M10)) fun j3 =>
    if v12 = 0 then (ck p1 10 <|
    if (M8.i 34 (ix p1)) < 0 then (j3 0 M8)
    else (ck p1 10 <|
    bd (x_means v10 (M8.i 34 (ix p1)) M8) fun v13 M11 =>
    if v13 = 0 then (j3 0 M11)
    else (j3 1 M11)))
    else (j3 1 M8))
    else (some ((-2), M5))) FU (-2) 1000000000 0 M1)

set_option maxHeartbeats 4000000 in
theorem t_x_near (G : JG) (p1 : Int32) (M : PM) : T_x_near G  M 0 (ent [.ref 20, .int p1] 6) [] (x_near p1 M) := by
  unfold x_near
  refine J_aload_n (pc := 0) dX1_near_0 rfl ?_
  refine J_iload_n (pc := 1) dX1_near_1 rfl ?_
  refine J_callV (pc := 2) (n := 1) (b := 20) (vs := [.int p1]) (ci := 0) (fun l => C_x_isWord l p1 M) (lw_V q674 q676 qs16 q116 q677) nmv_X1_isWord rfl (by omega) (by decide) rfl (fun h => sh_k1 h 0 rfl) rfl (Nat.le_of_ble_eq_true rfl) dX1_near_2 (fun v1 M1 => ?_)
  refine J_if_ne (pc := 5) 10 dX1_near_5 rfl (fun h => if_neg h) (fun h => if_pos h) (fun _ => ?_) (fun _ => ?_)
  · refine J_bipush (pc := 10) (-2) dX1_near_10 (by decide) ?_
    refine J_istore_n (pc := 12) dX1_near_12 (by decide) ?_
    refine J_ldcw (pc := 13) 1000000000 q799 dX1_near_13 ?_
    refine J_istore_n (pc := 16) dX1_near_16 (by decide) ?_
    refine J_iconst (pc := 17) 0 dX1_near_17 (by decide) ?_
    refine J_istore (pc := 18) dX1_near_18 (by decide) ?_
    refine J_sub (A := [some (.ref 20), some (.int p1), some (.int (-2)), some (.int 1000000000), some (.int 0), none]) ⟨rfl, ⟨rfl, ⟨rfl, ⟨rfl, ⟨rfl, trivial⟩⟩⟩⟩⟩ (t_x_near_L20 G p1 _ ?_ FU (-2) 1000000000 0 M1)
    · intro v10 v11 M5
      refine J_iload_n (pc := 77) dX1_near_77 rfl ?_
      refine J_if_ge (pc := 78) 84 dX1_near_78 rfl (fun h => if_pos h) (fun h => if_neg h) (fun _ => ?_) (fun _ => ?_)
      · refine J_aload_n (pc := 84) dX1_near_84 rfl ?_
        refine J_iconst (pc := 85) 0 dX1_near_85 (by decide) ?_
        refine J_put (pc := 86) (a := 20) (v := .int 0) (M' := M5.si 20 67 0) (c := 0) rfl in_X1 tyX1_ok fnX1 67 (by decide) q251 rfl (Or.inl rfl) (fun h => sh_k1 h 0 rfl) (fun _ => rfl) (fun _ => rfl) ⟨⟨rfl, rfl⟩, rfl⟩ (fun _ hb => up2_same hb) (fun _ _ => rfl) (fun _ _ => rfl) (put_i (fun _ _ _ => rfl)) (fun h => Sh_si h) dX1_near_86 ?_
        refine J_ltM (fun M6 => ?_)
        refine J_aload_n (pc := 89) dX1_near_89 rfl ?_
        refine J_iload_n (pc := 90) dX1_near_90 rfl ?_
        refine J_i2l (pc := 91) dX1_near_91 ?_
        refine J_callV (pc := 92) (n := 1) (b := 20) (vs := [.long (Int32.toInt64 v11)]) (ci := 0) (fun l => C_x_tells l (Int32.toInt64 v11) M6) (lw_V q708 q710 qs20 q116 q711) nmv_X1_tells rfl (by omega) (by decide) rfl (fun h => sh_k1 h 0 rfl) rfl (Nat.le_of_ble_eq_true rfl) dX1_near_92 (fun _ M7 => ?_)
        refine J_aload_n (pc := 95) dX1_near_95 rfl ?_
        refine J_aload_n (pc := 96) dX1_near_96 rfl ?_
        refine J_iload_n (pc := 97) dX1_near_97 rfl ?_
        refine J_aload_n (pc := 98) dX1_near_98 rfl ?_
        refine J_get (pc := 99) (c := 0) (.ref 33) rfl in_X1 4 (by decide) q181 rfl (fun h => sh_k1 h 0 rfl) (fun h _ => fv_ref (Or.inr ⟨_, rfl⟩) (sh_r h 12 rfl)) dX1_near_99 ?_
        refine J_iload_n (pc := 102) dX1_near_102 rfl ?_
        refine J_ck (fun h1 => ?_)
        refine J_iald (pc := 103) (a := 33) (fun h => sh_a h 13 rfl h1) dX1_near_103 ?_
        refine J_callV (pc := 104) (n := 2) (b := 20) (vs := [.int v10, .int (M7.i 33 (ix p1))]) (ci := 0) (fun l => C_x_means l v10 (M7.i 33 (ix p1)) M7) (lw_V q760 q762 qs27 q116 q763) nmv_X1_means rfl (by omega) (by decide) rfl (fun h => sh_k1 h 0 rfl) rfl (Nat.le_of_ble_eq_true rfl) dX1_near_104 (fun v12 M8 => ?_)
        refine J_jn (P := fun J => ∀ (w1 : Int64) (M9 : PM), T_x_near G  M9 138 [none, none, some (.int v10), none, none, none] [.long w1, .ref 20] (J w1 M9)) (fun w1 M9 => ?_) (fun j3 hj3 => ?_)
        · refine J_callV (pc := 138) (n := 1) (b := 20) (vs := [.long w1]) (ci := 0) (fun l => C_x_tells l w1 M9) (lw_V q708 q710 qs20 q116 q711) nmv_X1_tells rfl (by omega) (by decide) rfl (fun h => sh_k1 h 0 rfl) rfl (Nat.le_of_ble_eq_true rfl) dX1_near_138 (fun _ M10 => ?_)
          refine J_iload_n (pc := 141) dX1_near_141 rfl ?_
          exact J_iret (pc := 142) dX1_near_142
        refine J_if_ne (pc := 107) 133 dX1_near_107 rfl (fun h => if_neg h) (fun h => if_pos h) (fun _ => ?_) (fun _ => ?_)
        · refine J_lconst (pc := 133) 1 dX1_near_133 (by decide) ?_
          refine J_goto (pc := 134) 138 dX1_near_134 rfl ?_
          exact J_sub (A := [none, none, some (.int v10), none, none, none]) ⟨rfl, trivial⟩ (hj3 1 M8)
        · refine J_aload_n (pc := 110) dX1_near_110 rfl ?_
          refine J_get (pc := 111) (c := 0) (.ref 34) rfl in_X1 5 (by decide) q182 rfl (fun h => sh_k1 h 0 rfl) (fun h _ => fv_ref (Or.inr ⟨_, rfl⟩) (sh_r h 13 rfl)) dX1_near_111 ?_
          refine J_iload_n (pc := 114) dX1_near_114 rfl ?_
          refine J_ck (fun h2 => ?_)
          refine J_iald (pc := 115) (a := 34) (fun h => sh_a h 14 rfl h2) dX1_near_115 ?_
          refine J_if_lt (pc := 116) 137 dX1_near_116 rfl (fun h => if_pos h) (fun h => if_neg h) (fun _ => ?_) (fun _ => ?_)
          · refine J_lconst (pc := 137) 0 dX1_near_137 (by decide) ?_
            exact J_sub (A := [none, none, some (.int v10), none, none, none]) ⟨rfl, trivial⟩ (hj3 0 M8)
          · refine J_aload_n (pc := 119) dX1_near_119 rfl ?_
            refine J_iload_n (pc := 120) dX1_near_120 rfl ?_
            refine J_aload_n (pc := 121) dX1_near_121 rfl ?_
            refine J_get (pc := 122) (c := 0) (.ref 34) rfl in_X1 5 (by decide) q182 rfl (fun h => sh_k1 h 0 rfl) (fun h _ => fv_ref (Or.inr ⟨_, rfl⟩) (sh_r h 13 rfl)) dX1_near_122 ?_
            refine J_iload_n (pc := 125) dX1_near_125 rfl ?_
            refine J_ck (fun h3 => ?_)
            refine J_iald (pc := 126) (a := 34) (fun h => sh_a h 14 rfl h3) dX1_near_126 ?_
            refine J_callV (pc := 127) (n := 2) (b := 20) (vs := [.int v10, .int (M8.i 34 (ix p1))]) (ci := 0) (fun l => C_x_means l v10 (M8.i 34 (ix p1)) M8) (lw_V q760 q762 qs27 q116 q763) nmv_X1_means rfl (by omega) (by decide) rfl (fun h => sh_k1 h 0 rfl) rfl (Nat.le_of_ble_eq_true rfl) dX1_near_127 (fun v13 M11 => ?_)
            refine J_if_eq (pc := 130) 137 dX1_near_130 rfl (fun h => if_pos h) (fun h => if_neg h) (fun _ => ?_) (fun _ => ?_)
            · refine J_lconst (pc := 137) 0 dX1_near_137 (by decide) ?_
              exact J_sub (A := [none, none, some (.int v10), none, none, none]) ⟨rfl, trivial⟩ (hj3 0 M11)
            · refine J_lconst (pc := 133) 1 dX1_near_133 (by decide) ?_
              refine J_goto (pc := 134) 138 dX1_near_134 rfl ?_
              exact J_sub (A := [none, none, some (.int v10), none, none, none]) ⟨rfl, trivial⟩ (hj3 1 M11)
      · refine J_bipush (pc := 81) (-2) dX1_near_81 (by decide) ?_
        exact J_iret (pc := 83) dX1_near_83
  · refine J_iconst (pc := 8) (-1) dX1_near_8 (by decide) ?_
    exact J_iret (pc := 9) dX1_near_9

theorem C_x_near (l : Launch) (p1 : Int32) (M : PM) : Ctr l Sh yX1_near cX1_near 6 (some .int) 9 rvI [.ref 20, .int p1] M (x_near p1 M) := Ctr.of (by decide +kernel) (Nat.le_of_ble_eq_true rfl) (fun G => t_x_near G p1 M)

abbrev T_b_x_common (G : JG) (d : Nat) (M : PM) (pc : Nat) (L : List (Option Value)) (S : List Value) (o : Option (Int64 × PM)) : Prop := JJ G cX1_common yX1_common 4 (d + 21) (some .long) Sh (finR G Sh rvL) M pc L S o
def b_x_common (f_common : Int64 → Int64 → PM → Option (Int64 × PM)) (p0 : Int64) (p2 : Int64) (M : PM) : Option (Int64 × PM) :=
    if (lg_cmp p2 0) = 0 then (some (p0, M))
    else (ckb (¬ (p2 : Int64) = 0) <|
    bd (f_common p2 (p0 - p0 / p2 * p2) M) fun w1 M1 =>
    some (w1, M1))

set_option maxHeartbeats 4000000 in
theorem t_b_x_common (G : JG) (d : Nat) (f_common : Int64 → Int64 → PM → Option (Int64 × PM)) (h_common : ∀ (b0 : Int64) (b1 : Int64) (M : PM) (l : Launch), Ctr l Sh yX1_common cX1_common 4 (some .long) (d + 20) rvL [.long b0, .long b1] M (f_common b0 b1 M)) (p0 : Int64) (p2 : Int64) (M : PM) : T_b_x_common G d M 0 (ent [.long p0, .long p2] 4) [] (b_x_common f_common p0 p2 M) := by
  unfold b_x_common
  refine J_lload_n (pc := 0) dX1_common_0 rfl ?_
  refine J_lconst (pc := 1) 0 dX1_common_1 (by decide) ?_
  refine J_lcmp (pc := 2) dX1_common_2 ?_
  refine J_if_ne (pc := 3) 10 dX1_common_3 rfl (fun h => if_neg h) (fun h => if_pos h) (fun _ => ?_) (fun _ => ?_)
  · refine J_lload_n (pc := 10) dX1_common_10 rfl ?_
    refine J_lload_n (pc := 11) dX1_common_11 rfl ?_
    refine J_lload_n (pc := 12) dX1_common_12 rfl ?_
    refine J_ckb (fun h1 => ?_)
    refine J_lrem (pc := 13) dX1_common_13 h1 ?_
    refine J_callS (pc := 14) (n := 2) (vs := [.long p2, .long (p0 - p0 / p2 * p2)]) (fun l => h_common p2 (p0 - p0 / p2 * p2) M l) (lw_S q859 q860 q116 q861) nmh_X1_common rfl (by omega) (by decide) rfl (Nat.le_of_ble_eq_true rfl) dX1_common_14 (fun w1 M1 => ?_)
    exact J_lret (pc := 17) dX1_common_17
  · refine J_lload_n (pc := 6) dX1_common_6 rfl ?_
    refine J_goto (pc := 7) 17 dX1_common_7 rfl ?_
    exact J_lret (pc := 17) dX1_common_17

def G_x_common : Nat → (Int64 → Int64 → PM → Option (Int64 × PM))
  | 0 => (fun _ _ _ => none)
  | n + 1 => (b_x_common ((G_x_common n)))
theorem CG_x_common : ∀ d : Nat, (∀ (b0 : Int64) (b1 : Int64) (M : PM) (l : Launch), Ctr l Sh yX1_common cX1_common 4 (some .long) (d + 20) rvL [.long b0, .long b1] M ((G_x_common d) b0 b1 M)) := by
  intro d
  induction d with
  | zero => exact fun _ _ _ _ r M1 h => (by cases h)
  | succ d ih =>
    have h0 := ih
    exact fun b0 b1 M l => Ctr.of (by decide +kernel) (Nat.le_of_ble_eq_true rfl) (fun G => t_b_x_common G d _ h0 b0 b1 M)
def x_common (b0 : Int64) (b1 : Int64) (M : PM) : Option (Int64 × PM) := (G_x_common 120) b0 b1 M
theorem C_x_common (l : Launch) (b0 : Int64) (b1 : Int64) (M : PM) : Ctr l Sh yX1_common cX1_common 4 (some .long) 140 rvL [.long b0, .long b1] M (x_common b0 b1 M) := CG_x_common 120 b0 b1 M l
abbrev T_x_heard (G : JG) (M : PM) (pc : Nat) (L : List (Option Value)) (S : List Value) (o : Option (Int32 × PM)) : Prop := JJ G cX1_heard yX1_heard 15 141 (some .int) Sh (finR G Sh rvI) M pc L S o
def x_heard_L51 (c2 : Int32) (c3 : Int32) (c4 : Int32) (c5 : Int64) (k72 : Int64 → PM → Option (Int32 × PM)) : Nat → Int64 → Int32 → PM → Option (Int32 × PM)
  | 0, _, _, _ => none
  | n + 1, w1, v5, M4 =>
    if c4 ≤ v5 then (k72 w1 M4)
    else (lt (w1 * 10) fun w2 =>
    lt (v5 + 1) fun v6 =>
    x_heard_L51 c2 c3 c4 c5 k72 n w2 v6 M4)

set_option maxHeartbeats 4000000 in
theorem t_x_heard_L51 (G : JG) (c2 : Int32) (c3 : Int32) (c4 : Int32) (c5 : Int64) (k72 : Int64 → PM → Option (Int32 × PM)) (hk72 : ∀ z7 Me, T_x_heard G  Me 72 [some (.ref 20), none, some (.int c2), some (.int c3), some (.int c4), some (.long c5), none, some (.long z7), none, none, none, none, none, none, none] [] (k72 z7 Me)) : ∀ (n : Nat) (w1 : Int64) (v5 : Int32) (M4 : PM), T_x_heard G  M4 51 [some (.ref 20), none, some (.int c2), some (.int c3), some (.int c4), some (.long c5), none, some (.long w1), none, some (.int v5), none, none, none, none, none] [] (x_heard_L51 c2 c3 c4 c5 k72 n w1 v5 M4) := by
  intro n
  induction n with
  | zero =>
    intro w1 v5 M4
    exact J_none
  | succ n ih =>
    intro w1 v5 M4
    rw [x_heard_L51]
    refine J_iload (pc := 51) dX1_heard_51 rfl ?_
    refine J_iload (pc := 53) dX1_heard_53 rfl ?_
    refine J_icmp_ge (pc := 55) 72 dX1_heard_55 rfl (fun h => if_pos h) (fun h => if_neg h) (fun _ => ?_) (fun _ => ?_)
    · exact J_sub (A := [some (.ref 20), none, some (.int c2), some (.int c3), some (.int c4), some (.long c5), none, some (.long w1), none, none, none, none, none, none, none]) ⟨rfl, ⟨rfl, ⟨rfl, ⟨rfl, ⟨rfl, ⟨rfl, trivial⟩⟩⟩⟩⟩⟩ (hk72 w1 M4)
    · refine J_lload (pc := 58) dX1_heard_58 rfl ?_
      refine J_ldc2 (pc := 60) 10 q857 dX1_heard_60 ?_
      refine J_lmul (pc := 63) dX1_heard_63 ?_
      refine J_lt (β := Int64) (v := (w1 * 10)) (L := fun _ => _) (S := fun w2 => [.long w2]) (fun w2 => ?_)
      refine J_lstore (pc := 64) dX1_heard_64 (by decide) ?_
      refine J_iincL (pc := 66) (n := 1) (by decide) dX1_heard_66 rfl (by decide) (fun v6 => ?_)
      refine J_goto (pc := 69) 51 dX1_heard_69 rfl ?_
      exact J_sub (A := [some (.ref 20), none, some (.int c2), some (.int c3), some (.int c4), some (.long c5), none, some (.long w2), none, some (.int v6), none, none, none, none, none]) ⟨rfl, ⟨rfl, ⟨rfl, ⟨rfl, ⟨rfl, ⟨rfl, ⟨rfl, trivial⟩⟩⟩⟩⟩⟩⟩ (ih w2 v6 M4)

def x_heard_L98 (c2 : Int32) (c3 : Int32) (c4 : Int32) (c5 : Int64) (c7 : Int64) (c9 : Int64) (c11 : Int32) (k133 : Int64 → PM → Option (Int32 × PM)) : Nat → Int64 → Int32 → PM → Option (Int32 × PM)
  | 0, _, _, _ => none
  | n + 1, w6, v8, M8 =>
    if c4 ≤ v8 then (k133 w6 M8)
    else (jn (fun (w7 : Int64) (M9 : PM) =>
    lt (w6 * w7) fun w8 =>
    lt (v8 + 1) fun v9 =>
    x_heard_L98 c2 c3 c4 c5 c7 c9 c11 k133 n w8 v9 M9) fun j2 =>
    if c11 ≤ v8 then (j2 (Int32.toInt64 c2) M8)
    else (j2 (Int32.toInt64 (10 - c2)) M8))

set_option maxHeartbeats 4000000 in
theorem t_x_heard_L98 (G : JG) (c2 : Int32) (c3 : Int32) (c4 : Int32) (c5 : Int64) (c7 : Int64) (c9 : Int64) (c11 : Int32) (k133 : Int64 → PM → Option (Int32 × PM)) (hk133 : ∀ z12 Me, T_x_heard G  Me 133 [some (.ref 20), none, some (.int c2), some (.int c3), some (.int c4), some (.long c5), none, some (.long c7), none, some (.long c9), none, some (.int c11), some (.long z12), none, none] [] (k133 z12 Me)) : ∀ (n : Nat) (w6 : Int64) (v8 : Int32) (M8 : PM), T_x_heard G  M8 98 [some (.ref 20), none, some (.int c2), some (.int c3), some (.int c4), some (.long c5), none, some (.long c7), none, some (.long c9), none, some (.int c11), some (.long w6), none, some (.int v8)] [] (x_heard_L98 c2 c3 c4 c5 c7 c9 c11 k133 n w6 v8 M8) := by
  intro n
  induction n with
  | zero =>
    intro w6 v8 M8
    exact J_none
  | succ n ih =>
    intro w6 v8 M8
    rw [x_heard_L98]
    refine J_iload (pc := 98) dX1_heard_98 rfl ?_
    refine J_iload (pc := 100) dX1_heard_100 rfl ?_
    refine J_icmp_ge (pc := 102) 133 dX1_heard_102 rfl (fun h => if_pos h) (fun h => if_neg h) (fun _ => ?_) (fun _ => ?_)
    · exact J_sub (A := [some (.ref 20), none, some (.int c2), some (.int c3), some (.int c4), some (.long c5), none, some (.long c7), none, some (.long c9), none, some (.int c11), some (.long w6), none, none]) ⟨rfl, ⟨rfl, ⟨rfl, ⟨rfl, ⟨rfl, ⟨rfl, ⟨rfl, ⟨rfl, ⟨rfl, trivial⟩⟩⟩⟩⟩⟩⟩⟩⟩ (hk133 w6 M8)
    · refine J_lload (pc := 105) dX1_heard_105 rfl ?_
      refine J_iload (pc := 107) dX1_heard_107 rfl ?_
      refine J_iload (pc := 109) dX1_heard_109 rfl ?_
      refine J_jn (P := fun J => ∀ (w7 : Int64) (M9 : PM), T_x_heard G  M9 124 [some (.ref 20), none, some (.int c2), some (.int c3), some (.int c4), some (.long c5), none, some (.long c7), none, some (.long c9), none, some (.int c11), none, none, some (.int v8)] [.long w7, .long w6] (J w7 M9)) (fun w7 M9 => ?_) (fun j2 hj2 => ?_)
      · refine J_lmul (pc := 124) dX1_heard_124 ?_
        refine J_lt (β := Int64) (v := (w6 * w7)) (L := fun _ => _) (S := fun w8 => [.long w8]) (fun w8 => ?_)
        refine J_lstore (pc := 125) dX1_heard_125 (by decide) ?_
        refine J_iincL (pc := 127) (n := 1) (by decide) dX1_heard_127 rfl (by decide) (fun v9 => ?_)
        refine J_goto (pc := 130) 98 dX1_heard_130 rfl ?_
        exact J_sub (A := [some (.ref 20), none, some (.int c2), some (.int c3), some (.int c4), some (.long c5), none, some (.long c7), none, some (.long c9), none, some (.int c11), some (.long w8), none, some (.int v9)]) ⟨rfl, ⟨rfl, ⟨rfl, ⟨rfl, ⟨rfl, ⟨rfl, ⟨rfl, ⟨rfl, ⟨rfl, ⟨rfl, trivial⟩⟩⟩⟩⟩⟩⟩⟩⟩⟩ (ih w8 v9 M9)
      refine J_icmp_ge (pc := 111) 122 dX1_heard_111 rfl (fun h => if_pos h) (fun h => if_neg h) (fun _ => ?_) (fun _ => ?_)
      · refine J_iload_n (pc := 122) dX1_heard_122 rfl ?_
        refine J_i2l (pc := 123) dX1_heard_123 ?_
        exact J_sub (A := [some (.ref 20), none, some (.int c2), some (.int c3), some (.int c4), some (.long c5), none, some (.long c7), none, some (.long c9), none, some (.int c11), none, none, some (.int v8)]) ⟨rfl, ⟨rfl, ⟨rfl, ⟨rfl, ⟨rfl, ⟨rfl, ⟨rfl, ⟨rfl, ⟨rfl, trivial⟩⟩⟩⟩⟩⟩⟩⟩⟩ (hj2 (Int32.toInt64 c2) M8)
      · refine J_bipush (pc := 114) 10 dX1_heard_114 (by decide) ?_
        refine J_iload_n (pc := 116) dX1_heard_116 rfl ?_
        refine J_isub (pc := 117) dX1_heard_117 ?_
        refine J_i2l (pc := 118) dX1_heard_118 ?_
        refine J_goto (pc := 119) 124 dX1_heard_119 rfl ?_
        exact J_sub (A := [some (.ref 20), none, some (.int c2), some (.int c3), some (.int c4), some (.long c5), none, some (.long c7), none, some (.long c9), none, some (.int c11), none, none, some (.int v8)]) ⟨rfl, ⟨rfl, ⟨rfl, ⟨rfl, ⟨rfl, ⟨rfl, ⟨rfl, ⟨rfl, ⟨rfl, trivial⟩⟩⟩⟩⟩⟩⟩⟩⟩ (hj2 (Int32.toInt64 (10 - c2)) M8)

def x_heard_L78 (c2 : Int32) (c3 : Int32) (c4 : Int32) (c7 : Int64) (k163 : Int64 → PM → Option (Int32 × PM)) : Nat → Int64 → Int64 → Int32 → PM → Option (Int32 × PM)
  | 0, _, _, _, _ => none
  | n + 1, w4, w5, v7, M6 =>
    jn (fun (M7 : PM) =>
    k163 w4 M7) fun j1 =>
    if c3 < v7 then (j1 M6)
    else (if c4 < v7 then (j1 M6)
    else (x_heard_L98 c2 c3 c4 w4 c7 w5 v7 (fun (w9 : Int64) (M10 : PM) =>
    lt (w4 + w9) fun w10 =>
    ckb (¬ ((Int32.toInt64 (v7 + 1)) : Int64) = 0) <|
    lt ((w5 * (Int32.toInt64 (c4 - v7))) / (Int32.toInt64 (v7 + 1))) fun w11 =>
    lt (v7 + 1) fun v10 =>
    x_heard_L78 c2 c3 c4 c7 k163 n w10 w11 v10 M10) FU w5 0 M6))

set_option maxHeartbeats 4000000 in
theorem t_x_heard_L78 (G : JG) (c2 : Int32) (c3 : Int32) (c4 : Int32) (c7 : Int64) (k163 : Int64 → PM → Option (Int32 × PM)) (hk163 : ∀ z5 Me, T_x_heard G  Me 163 [some (.ref 20), none, none, none, none, some (.long z5), none, some (.long c7), none, none, none, none, none, none, none] [] (k163 z5 Me)) : ∀ (n : Nat) (w4 : Int64) (w5 : Int64) (v7 : Int32) (M6 : PM), T_x_heard G  M6 78 [some (.ref 20), none, some (.int c2), some (.int c3), some (.int c4), some (.long w4), none, some (.long c7), none, some (.long w5), none, some (.int v7), none, none, none] [] (x_heard_L78 c2 c3 c4 c7 k163 n w4 w5 v7 M6) := by
  intro n
  induction n with
  | zero =>
    intro w4 w5 v7 M6
    exact J_none
  | succ n ih =>
    intro w4 w5 v7 M6
    rw [x_heard_L78]
    refine J_iload (pc := 78) dX1_heard_78 rfl ?_
    refine J_iload_n (pc := 80) dX1_heard_80 rfl ?_
    refine J_jn (P := fun J => ∀ (M7 : PM), T_x_heard G  M7 163 [some (.ref 20), none, none, none, none, some (.long w4), none, some (.long c7), none, none, none, none, none, none, none] [] (J M7)) (fun M7 => ?_) (fun j1 hj1 => ?_)
    · exact J_sub (A := [some (.ref 20), none, none, none, none, some (.long w4), none, some (.long c7), none, none, none, none, none, none, none]) ⟨rfl, ⟨rfl, ⟨rfl, trivial⟩⟩⟩ (hk163 w4 M7)
    refine J_icmp_gt (pc := 81) 163 dX1_heard_81 rfl (fun h => if_pos h) (fun h => if_neg h) (fun _ => ?_) (fun _ => ?_)
    · exact J_sub (A := [some (.ref 20), none, none, none, none, some (.long w4), none, some (.long c7), none, none, none, none, none, none, none]) ⟨rfl, ⟨rfl, ⟨rfl, trivial⟩⟩⟩ (hj1 M6)
    · refine J_iload (pc := 84) dX1_heard_84 rfl ?_
      refine J_iload (pc := 86) dX1_heard_86 rfl ?_
      refine J_icmp_gt (pc := 88) 163 dX1_heard_88 rfl (fun h => if_pos h) (fun h => if_neg h) (fun _ => ?_) (fun _ => ?_)
      · exact J_sub (A := [some (.ref 20), none, none, none, none, some (.long w4), none, some (.long c7), none, none, none, none, none, none, none]) ⟨rfl, ⟨rfl, ⟨rfl, trivial⟩⟩⟩ (hj1 M6)
      · refine J_lload (pc := 91) dX1_heard_91 rfl ?_
        refine J_lstore (pc := 93) dX1_heard_93 (by decide) ?_
        refine J_iconst (pc := 95) 0 dX1_heard_95 (by decide) ?_
        refine J_istore (pc := 96) dX1_heard_96 (by decide) ?_
        refine J_sub (A := [some (.ref 20), none, some (.int c2), some (.int c3), some (.int c4), some (.long w4), none, some (.long c7), none, some (.long w5), none, some (.int v7), some (.long w5), none, some (.int 0)]) ⟨rfl, ⟨rfl, ⟨rfl, ⟨rfl, ⟨rfl, ⟨rfl, ⟨rfl, ⟨rfl, ⟨rfl, ⟨rfl, trivial⟩⟩⟩⟩⟩⟩⟩⟩⟩⟩ (t_x_heard_L98 G c2 c3 c4 w4 c7 w5 v7 _ ?_ FU w5 0 M6)
        · intro w9 M10
          refine J_lload (pc := 133) dX1_heard_133 rfl ?_
          refine J_lload (pc := 135) dX1_heard_135 rfl ?_
          refine J_ladd (pc := 137) dX1_heard_137 ?_
          refine J_lt (β := Int64) (v := (w4 + w9)) (L := fun _ => _) (S := fun w10 => [.long w10]) (fun w10 => ?_)
          refine J_lstore (pc := 138) dX1_heard_138 (by decide) ?_
          refine J_lload (pc := 140) dX1_heard_140 rfl ?_
          refine J_iload (pc := 142) dX1_heard_142 rfl ?_
          refine J_iload (pc := 144) dX1_heard_144 rfl ?_
          refine J_isub (pc := 146) dX1_heard_146 ?_
          refine J_i2l (pc := 147) dX1_heard_147 ?_
          refine J_lmul (pc := 148) dX1_heard_148 ?_
          refine J_iload (pc := 149) dX1_heard_149 rfl ?_
          refine J_iconst (pc := 151) 1 dX1_heard_151 (by decide) ?_
          refine J_iadd (pc := 152) dX1_heard_152 ?_
          refine J_i2l (pc := 153) dX1_heard_153 ?_
          refine J_ckb (fun h2 => ?_)
          refine J_ldiv (pc := 154) dX1_heard_154 h2 ?_
          refine J_lt (β := Int64) (v := ((w5 * (Int32.toInt64 (c4 - v7))) / (Int32.toInt64 (v7 + 1)))) (L := fun _ => _) (S := fun w11 => [.long w11]) (fun w11 => ?_)
          refine J_lstore (pc := 155) dX1_heard_155 (by decide) ?_
          refine J_iincL (pc := 157) (n := 1) (by decide) dX1_heard_157 rfl (by decide) (fun v10 => ?_)
          refine J_goto (pc := 160) 78 dX1_heard_160 rfl ?_
          exact J_sub (A := [some (.ref 20), none, some (.int c2), some (.int c3), some (.int c4), some (.long w10), none, some (.long c7), none, some (.long w11), none, some (.int v10), none, none, none]) ⟨rfl, ⟨rfl, ⟨rfl, ⟨rfl, ⟨rfl, ⟨rfl, ⟨rfl, ⟨rfl, trivial⟩⟩⟩⟩⟩⟩⟩⟩ (ih w10 w11 v10 M10)

def x_heard (p1 : Int32) (p2 : Int32) (p3 : Int32) (M : PM) : Option (Int32 × PM) :=
    bd (x_isWord p1 M) fun v1 M1 =>
    if v1 = 0 then (some ((-1), M1))
    else (bd (x_in (Int32.toInt64 p2) 0 10 M1) fun v2 M2 =>
    if v2 = 0 then (some ((-1), M2))
    else (bd (x_in (Int32.toInt64 p3) 0 2 M2) fun v3 M3 =>
    if v3 = 0 then (some ((-1), M3))
    else (ck p1 10 <|
    lt (M3.i 32 (ix p1)) fun v4 =>
    x_heard_L51 p2 p3 v4 0 (fun (w3 : Int64) (M5 : PM) =>
    x_heard_L78 p2 p3 v4 w3 (fun (w12 : Int64) (M11 : PM) =>
    bd (x_common w12 w3 M11) fun w13 M12 =>
    lt (M12.si 20 67 0) fun M13 =>
    ckb (¬ (w13 : Int64) = 0) <|
    bd (x_tells (w12 / w13) M13) fun _ M14 =>
    ckb (¬ (w13 : Int64) = 0) <|
    bd (x_tells (w3 / w13) M14) fun _ M15 =>
    some (0, M15)) FU 0 1 0 M5) FU 1 0 M3)))

set_option maxHeartbeats 4000000 in
theorem t_x_heard (G : JG) (p1 : Int32) (p2 : Int32) (p3 : Int32) (M : PM) : T_x_heard G  M 0 (ent [.ref 20, .int p1, .int p2, .int p3] 15) [] (x_heard p1 p2 p3 M) := by
  unfold x_heard
  refine J_aload_n (pc := 0) dX1_heard_0 rfl ?_
  refine J_iload_n (pc := 1) dX1_heard_1 rfl ?_
  refine J_callV (pc := 2) (n := 1) (b := 20) (vs := [.int p1]) (ci := 0) (fun l => C_x_isWord l p1 M) (lw_V q674 q676 qs16 q116 q677) nmv_X1_isWord rfl (by omega) (by decide) rfl (fun h => sh_k1 h 0 rfl) rfl (Nat.le_of_ble_eq_true rfl) dX1_heard_2 (fun v1 M1 => ?_)
  refine J_if_eq (pc := 5) 32 dX1_heard_5 rfl (fun h => if_pos h) (fun h => if_neg h) (fun _ => ?_) (fun _ => ?_)
  · refine J_iconst (pc := 32) (-1) dX1_heard_32 (by decide) ?_
    exact J_iret (pc := 33) dX1_heard_33
  · refine J_iload_n (pc := 8) dX1_heard_8 rfl ?_
    refine J_i2l (pc := 9) dX1_heard_9 ?_
    refine J_lconst (pc := 10) 0 dX1_heard_10 (by decide) ?_
    refine J_ldc2 (pc := 11) 10 q857 dX1_heard_11 ?_
    refine J_callS (pc := 14) (n := 3) (vs := [.long (Int32.toInt64 p2), .long 0, .long 10]) (fun l => C_x_in l (Int32.toInt64 p2) 0 10 M1) (lw_S q398 q399 q116 q400) nmh_X1_in rfl (by omega) (by decide) rfl (Nat.le_of_ble_eq_true rfl) dX1_heard_14 (fun v2 M2 => ?_)
    refine J_if_eq (pc := 17) 32 dX1_heard_17 rfl (fun h => if_pos h) (fun h => if_neg h) (fun _ => ?_) (fun _ => ?_)
    · refine J_iconst (pc := 32) (-1) dX1_heard_32 (by decide) ?_
      exact J_iret (pc := 33) dX1_heard_33
    · refine J_iload_n (pc := 20) dX1_heard_20 rfl ?_
      refine J_i2l (pc := 21) dX1_heard_21 ?_
      refine J_lconst (pc := 22) 0 dX1_heard_22 (by decide) ?_
      refine J_ldc2 (pc := 23) 2 q858 dX1_heard_23 ?_
      refine J_callS (pc := 26) (n := 3) (vs := [.long (Int32.toInt64 p3), .long 0, .long 2]) (fun l => C_x_in l (Int32.toInt64 p3) 0 2 M2) (lw_S q398 q399 q116 q400) nmh_X1_in rfl (by omega) (by decide) rfl (Nat.le_of_ble_eq_true rfl) dX1_heard_26 (fun v3 M3 => ?_)
      refine J_if_ne (pc := 29) 34 dX1_heard_29 rfl (fun h => if_neg h) (fun h => if_pos h) (fun _ => ?_) (fun _ => ?_)
      · refine J_aload_n (pc := 34) dX1_heard_34 rfl ?_
        refine J_get (pc := 35) (c := 0) (.ref 32) rfl in_X1 3 (by decide) q180 rfl (fun h => sh_k1 h 0 rfl) (fun h _ => fv_ref (Or.inr ⟨_, rfl⟩) (sh_r h 11 rfl)) dX1_heard_35 ?_
        refine J_iload_n (pc := 38) dX1_heard_38 rfl ?_
        refine J_ck (fun h1 => ?_)
        refine J_iald (pc := 39) (a := 32) (fun h => sh_a h 12 rfl h1) dX1_heard_39 ?_
        refine J_lt (β := Int32) (v := (M3.i 32 (ix p1))) (L := fun _ => _) (S := fun v4 => [.int v4]) (fun v4 => ?_)
        refine J_istore (pc := 40) dX1_heard_40 (by decide) ?_
        refine J_lconst (pc := 42) 0 dX1_heard_42 (by decide) ?_
        refine J_lstore (pc := 43) dX1_heard_43 (by decide) ?_
        refine J_lconst (pc := 45) 1 dX1_heard_45 (by decide) ?_
        refine J_lstore (pc := 46) dX1_heard_46 (by decide) ?_
        refine J_iconst (pc := 48) 0 dX1_heard_48 (by decide) ?_
        refine J_istore (pc := 49) dX1_heard_49 (by decide) ?_
        refine J_sub (A := [some (.ref 20), none, some (.int p2), some (.int p3), some (.int v4), some (.long 0), none, some (.long 1), none, some (.int 0), none, none, none, none, none]) ⟨rfl, ⟨rfl, ⟨rfl, ⟨rfl, ⟨rfl, ⟨rfl, ⟨rfl, trivial⟩⟩⟩⟩⟩⟩⟩ (t_x_heard_L51 G p2 p3 v4 0 _ ?_ FU 1 0 M3)
        · intro w3 M5
          refine J_lconst (pc := 72) 1 dX1_heard_72 (by decide) ?_
          refine J_lstore (pc := 73) dX1_heard_73 (by decide) ?_
          refine J_iconst (pc := 75) 0 dX1_heard_75 (by decide) ?_
          refine J_istore (pc := 76) dX1_heard_76 (by decide) ?_
          refine J_sub (A := [some (.ref 20), none, some (.int p2), some (.int p3), some (.int v4), some (.long 0), none, some (.long w3), none, some (.long 1), none, some (.int 0), none, none, none]) ⟨rfl, ⟨rfl, ⟨rfl, ⟨rfl, ⟨rfl, ⟨rfl, ⟨rfl, ⟨rfl, trivial⟩⟩⟩⟩⟩⟩⟩⟩ (t_x_heard_L78 G p2 p3 v4 w3 _ ?_ FU 0 1 0 M5)
          · intro w12 M11
            refine J_lload (pc := 163) dX1_heard_163 rfl ?_
            refine J_lload (pc := 165) dX1_heard_165 rfl ?_
            refine J_callS (pc := 167) (n := 2) (vs := [.long w12, .long w3]) (fun l => C_x_common l w12 w3 M11) (lw_S q859 q860 q116 q861) nmh_X1_common rfl (by omega) (by decide) rfl (Nat.le_of_ble_eq_true rfl) dX1_heard_167 (fun w13 M12 => ?_)
            refine J_lstore (pc := 170) dX1_heard_170 (by decide) ?_
            refine J_aload_n (pc := 172) dX1_heard_172 rfl ?_
            refine J_iconst (pc := 173) 0 dX1_heard_173 (by decide) ?_
            refine J_put (pc := 174) (a := 20) (v := .int 0) (M' := M12.si 20 67 0) (c := 0) rfl in_X1 tyX1_ok fnX1 67 (by decide) q251 rfl (Or.inl rfl) (fun h => sh_k1 h 0 rfl) (fun _ => rfl) (fun _ => rfl) ⟨⟨rfl, rfl⟩, rfl⟩ (fun _ hb => up2_same hb) (fun _ _ => rfl) (fun _ _ => rfl) (put_i (fun _ _ _ => rfl)) (fun h => Sh_si h) dX1_heard_174 ?_
            refine J_ltM (fun M13 => ?_)
            refine J_aload_n (pc := 177) dX1_heard_177 rfl ?_
            refine J_lload (pc := 178) dX1_heard_178 rfl ?_
            refine J_lload (pc := 180) dX1_heard_180 rfl ?_
            refine J_ckb (fun h3 => ?_)
            refine J_ldiv (pc := 182) dX1_heard_182 h3 ?_
            refine J_callV (pc := 183) (n := 1) (b := 20) (vs := [.long (w12 / w13)]) (ci := 0) (fun l => C_x_tells l (w12 / w13) M13) (lw_V q708 q710 qs20 q116 q711) nmv_X1_tells rfl (by omega) (by decide) rfl (fun h => sh_k1 h 0 rfl) rfl (Nat.le_of_ble_eq_true rfl) dX1_heard_183 (fun _ M14 => ?_)
            refine J_aload_n (pc := 186) dX1_heard_186 rfl ?_
            refine J_lload (pc := 187) dX1_heard_187 rfl ?_
            refine J_lload (pc := 189) dX1_heard_189 rfl ?_
            refine J_ckb (fun h4 => ?_)
            refine J_ldiv (pc := 191) dX1_heard_191 h4 ?_
            refine J_callV (pc := 192) (n := 1) (b := 20) (vs := [.long (w3 / w13)]) (ci := 0) (fun l => C_x_tells l (w3 / w13) M14) (lw_V q708 q710 qs20 q116 q711) nmv_X1_tells rfl (by omega) (by decide) rfl (fun h => sh_k1 h 0 rfl) rfl (Nat.le_of_ble_eq_true rfl) dX1_heard_192 (fun _ M15 => ?_)
            refine J_iconst (pc := 195) 0 dX1_heard_195 (by decide) ?_
            exact J_iret (pc := 196) dX1_heard_196
      · refine J_iconst (pc := 32) (-1) dX1_heard_32 (by decide) ?_
        exact J_iret (pc := 33) dX1_heard_33

theorem C_x_heard (l : Launch) (p1 : Int32) (p2 : Int32) (p3 : Int32) (M : PM) : Ctr l Sh yX1_heard cX1_heard 15 (some .int) 141 rvI [.ref 20, .int p1, .int p2, .int p3] M (x_heard p1 p2 p3 M) := Ctr.of (by decide +kernel) (Nat.le_of_ble_eq_true rfl) (fun G => t_x_heard G p1 p2 p3 M)

abbrev T_jl_bitCount (G : JG) (M : PM) (pc : Nat) (L : List (Option Value)) (S : List Value) (o : Option (Int32 × PM)) : Prop := JJ G cJ10_bitCount yJ10_bitCount 1 1 (some .int) Sh (finR G Sh rvI) M pc L S o
def jl_bitCount (p0 : Int32) (M : PM) : Option (Int32 × PM) :=
    lt (p0 - (((Int32.toUInt32 p0 >>> (Int32.toUInt32 1 &&& Int32.toUInt32 31)).toInt32) &&& 1431655765)) fun v1 =>
    lt ((v1 &&& 858993459) + (((Int32.toUInt32 v1 >>> (Int32.toUInt32 2 &&& Int32.toUInt32 31)).toInt32) &&& 858993459)) fun v2 =>
    lt ((v2 + ((Int32.toUInt32 v2 >>> (Int32.toUInt32 4 &&& Int32.toUInt32 31)).toInt32)) &&& 252645135) fun v3 =>
    lt (v3 + ((Int32.toUInt32 v3 >>> (Int32.toUInt32 8 &&& Int32.toUInt32 31)).toInt32)) fun v4 =>
    lt (v4 + ((Int32.toUInt32 v4 >>> (Int32.toUInt32 16 &&& Int32.toUInt32 31)).toInt32)) fun v5 =>
    some ((v5 &&& 63), M)

set_option maxHeartbeats 4000000 in
theorem t_jl_bitCount (G : JG) (p0 : Int32) (M : PM) : T_jl_bitCount G  M 0 (ent [.int p0] 1) [] (jl_bitCount p0 M) := by
  unfold jl_bitCount
  refine J_iload_n (pc := 0) dJ10_bitCount_0 rfl ?_
  refine J_iload_n (pc := 1) dJ10_bitCount_1 rfl ?_
  refine J_iconst (pc := 2) 1 dJ10_bitCount_2 (by decide) ?_
  refine J_iushr (pc := 3) dJ10_bitCount_3 ?_
  refine J_ldcw (pc := 4) 1431655765 q869 dJ10_bitCount_4 ?_
  refine J_iand (pc := 7) dJ10_bitCount_7 ?_
  refine J_isub (pc := 8) dJ10_bitCount_8 ?_
  refine J_lt (β := Int32) (v := (p0 - (((Int32.toUInt32 p0 >>> (Int32.toUInt32 1 &&& Int32.toUInt32 31)).toInt32) &&& 1431655765))) (L := fun _ => _) (S := fun v1 => [.int v1]) (fun v1 => ?_)
  refine J_istore_n (pc := 9) dJ10_bitCount_9 (by decide) ?_
  refine J_iload_n (pc := 10) dJ10_bitCount_10 rfl ?_
  refine J_ldcw (pc := 11) 858993459 q870 dJ10_bitCount_11 ?_
  refine J_iand (pc := 14) dJ10_bitCount_14 ?_
  refine J_iload_n (pc := 15) dJ10_bitCount_15 rfl ?_
  refine J_iconst (pc := 16) 2 dJ10_bitCount_16 (by decide) ?_
  refine J_iushr (pc := 17) dJ10_bitCount_17 ?_
  refine J_ldcw (pc := 18) 858993459 q870 dJ10_bitCount_18 ?_
  refine J_iand (pc := 21) dJ10_bitCount_21 ?_
  refine J_iadd (pc := 22) dJ10_bitCount_22 ?_
  refine J_lt (β := Int32) (v := ((v1 &&& 858993459) + (((Int32.toUInt32 v1 >>> (Int32.toUInt32 2 &&& Int32.toUInt32 31)).toInt32) &&& 858993459))) (L := fun _ => _) (S := fun v2 => [.int v2]) (fun v2 => ?_)
  refine J_istore_n (pc := 23) dJ10_bitCount_23 (by decide) ?_
  refine J_iload_n (pc := 24) dJ10_bitCount_24 rfl ?_
  refine J_iload_n (pc := 25) dJ10_bitCount_25 rfl ?_
  refine J_iconst (pc := 26) 4 dJ10_bitCount_26 (by decide) ?_
  refine J_iushr (pc := 27) dJ10_bitCount_27 ?_
  refine J_iadd (pc := 28) dJ10_bitCount_28 ?_
  refine J_ldcw (pc := 29) 252645135 q871 dJ10_bitCount_29 ?_
  refine J_iand (pc := 32) dJ10_bitCount_32 ?_
  refine J_lt (β := Int32) (v := ((v2 + ((Int32.toUInt32 v2 >>> (Int32.toUInt32 4 &&& Int32.toUInt32 31)).toInt32)) &&& 252645135)) (L := fun _ => _) (S := fun v3 => [.int v3]) (fun v3 => ?_)
  refine J_istore_n (pc := 33) dJ10_bitCount_33 (by decide) ?_
  refine J_iload_n (pc := 34) dJ10_bitCount_34 rfl ?_
  refine J_iload_n (pc := 35) dJ10_bitCount_35 rfl ?_
  refine J_bipush (pc := 36) 8 dJ10_bitCount_36 (by decide) ?_
  refine J_iushr (pc := 38) dJ10_bitCount_38 ?_
  refine J_iadd (pc := 39) dJ10_bitCount_39 ?_
  refine J_lt (β := Int32) (v := (v3 + ((Int32.toUInt32 v3 >>> (Int32.toUInt32 8 &&& Int32.toUInt32 31)).toInt32))) (L := fun _ => _) (S := fun v4 => [.int v4]) (fun v4 => ?_)
  refine J_istore_n (pc := 40) dJ10_bitCount_40 (by decide) ?_
  refine J_iload_n (pc := 41) dJ10_bitCount_41 rfl ?_
  refine J_iload_n (pc := 42) dJ10_bitCount_42 rfl ?_
  refine J_bipush (pc := 43) 16 dJ10_bitCount_43 (by decide) ?_
  refine J_iushr (pc := 45) dJ10_bitCount_45 ?_
  refine J_iadd (pc := 46) dJ10_bitCount_46 ?_
  refine J_lt (β := Int32) (v := (v4 + ((Int32.toUInt32 v4 >>> (Int32.toUInt32 16 &&& Int32.toUInt32 31)).toInt32))) (L := fun _ => _) (S := fun v5 => [.int v5]) (fun v5 => ?_)
  refine J_istore_n (pc := 47) dJ10_bitCount_47 (by decide) ?_
  refine J_iload_n (pc := 48) dJ10_bitCount_48 rfl ?_
  refine J_bipush (pc := 49) 63 dJ10_bitCount_49 (by decide) ?_
  refine J_iand (pc := 51) dJ10_bitCount_51 ?_
  exact J_iret (pc := 52) dJ10_bitCount_52

theorem C_jl_bitCount (l : Launch) (p0 : Int32) (M : PM) : Ctr l Sh yJ10_bitCount cJ10_bitCount 1 (some .int) 1 rvI [.int p0] M (jl_bitCount p0 M) := Ctr.of (by decide +kernel) (Nat.le_of_ble_eq_true rfl) (fun G => t_jl_bitCount G p0 M)

abbrev T_x_areApart (G : JG) (M : PM) (pc : Nat) (L : List (Option Value)) (S : List Value) (o : Option (Int32 × PM)) : Prop := JJ G cX1_areApart yX1_areApart 6 2 (some .boolean) Sh (finR G Sh rvI) M pc L S o
def x_areApart_L20 (c1 : Int32) (c2 : Int32) (c4 : Int32) (k80 : Int32 → PM → Option (Int32 × PM)) : Nat → Int32 → Int32 → PM → Option (Int32 × PM)
  | 0, _, _, _ => none
  | n + 1, v4, v5, M2 =>
    if (M2.i 20 11) ≤ v5 then (k80 v4 M2)
    else (jn (fun (v6 : Int32) (M3 : PM) =>
    lt (v5 + 1) fun v7 =>
    x_areApart_L20 c1 c2 c4 k80 n v6 v7 M3) fun j1 =>
    if v4 = 0 then (j1 0 M2)
    else (bd (x_has c1 c4 M2) fun v8 M4 =>
    if v8 = 0 then (j1 1 M4)
    else (bd (x_has c1 v5 M4) fun v9 M5 =>
    if v9 = 0 then (j1 1 M5)
    else (ck ((10 * c4) + v5) 100 <|
    if (M5.i 64 (ix ((10 * c4) + v5))) < c2 then (j1 0 M5)
    else (j1 1 M5)))))

set_option maxHeartbeats 4000000 in
theorem t_x_areApart_L20 (G : JG) (c1 : Int32) (c2 : Int32) (c4 : Int32) (k80 : Int32 → PM → Option (Int32 × PM)) (hk80 : ∀ z3 Me, T_x_areApart G  Me 80 [some (.ref 20), some (.int c1), some (.int c2), some (.int z3), some (.int c4), none] [] (k80 z3 Me)) : ∀ (n : Nat) (v4 : Int32) (v5 : Int32) (M2 : PM), T_x_areApart G  M2 20 [some (.ref 20), some (.int c1), some (.int c2), some (.int v4), some (.int c4), some (.int v5)] [] (x_areApart_L20 c1 c2 c4 k80 n v4 v5 M2) := by
  intro n
  induction n with
  | zero =>
    intro v4 v5 M2
    exact J_none
  | succ n ih =>
    intro v4 v5 M2
    rw [x_areApart_L20]
    refine J_iload (pc := 20) dX1_areApart_20 rfl ?_
    refine J_aload_n (pc := 22) dX1_areApart_22 rfl ?_
    refine J_get (pc := 23) (c := 0) (.int (M2.i 20 11)) rfl in_X1 11 (by decide) q188 rfl (fun h => sh_k1 h 0 rfl) (fun _ _ => rfl) dX1_areApart_23 ?_
    refine J_icmp_ge (pc := 26) 80 dX1_areApart_26 rfl (fun h => if_pos h) (fun h => if_neg h) (fun _ => ?_) (fun _ => ?_)
    · exact J_sub (A := [some (.ref 20), some (.int c1), some (.int c2), some (.int v4), some (.int c4), none]) ⟨rfl, ⟨rfl, ⟨rfl, ⟨rfl, ⟨rfl, trivial⟩⟩⟩⟩⟩ (hk80 v4 M2)
    · refine J_iload_n (pc := 29) dX1_areApart_29 rfl ?_
      refine J_jn (P := fun J => ∀ (v6 : Int32) (M3 : PM), T_x_areApart G  M3 73 [some (.ref 20), some (.int c1), some (.int c2), none, some (.int c4), some (.int v5)] [.int v6] (J v6 M3)) (fun v6 M3 => ?_) (fun j1 hj1 => ?_)
      · refine J_istore_n (pc := 73) dX1_areApart_73 (by decide) ?_
        refine J_iincL (pc := 74) (n := 1) (by decide) dX1_areApart_74 rfl (by decide) (fun v7 => ?_)
        refine J_goto (pc := 77) 20 dX1_areApart_77 rfl ?_
        exact J_sub (A := [some (.ref 20), some (.int c1), some (.int c2), some (.int v6), some (.int c4), some (.int v7)]) ⟨rfl, ⟨rfl, ⟨rfl, ⟨rfl, ⟨rfl, ⟨rfl, trivial⟩⟩⟩⟩⟩⟩ (ih v6 v7 M3)
      refine J_if_eq (pc := 30) 72 dX1_areApart_30 rfl (fun h => if_pos h) (fun h => if_neg h) (fun _ => ?_) (fun _ => ?_)
      · refine J_iconst (pc := 72) 0 dX1_areApart_72 (by decide) ?_
        exact J_sub (A := [some (.ref 20), some (.int c1), some (.int c2), none, some (.int c4), some (.int v5)]) ⟨rfl, ⟨rfl, ⟨rfl, ⟨rfl, ⟨rfl, trivial⟩⟩⟩⟩⟩ (hj1 0 M2)
      · refine J_iload_n (pc := 33) dX1_areApart_33 rfl ?_
        refine J_iload (pc := 34) dX1_areApart_34 rfl ?_
        refine J_callS (pc := 36) (n := 2) (vs := [.int c1, .int c4]) (fun l => C_x_has l c1 c4 M2) (lw_S q757 q758 q116 q759) nmh_X1_has rfl (by omega) (by decide) rfl (Nat.le_of_ble_eq_true rfl) dX1_areApart_36 (fun v8 M4 => ?_)
        refine J_if_eq (pc := 39) 68 dX1_areApart_39 rfl (fun h => if_pos h) (fun h => if_neg h) (fun _ => ?_) (fun _ => ?_)
        · refine J_iconst (pc := 68) 1 dX1_areApart_68 (by decide) ?_
          refine J_goto (pc := 69) 73 dX1_areApart_69 rfl ?_
          exact J_sub (A := [some (.ref 20), some (.int c1), some (.int c2), none, some (.int c4), some (.int v5)]) ⟨rfl, ⟨rfl, ⟨rfl, ⟨rfl, ⟨rfl, trivial⟩⟩⟩⟩⟩ (hj1 1 M4)
        · refine J_iload_n (pc := 42) dX1_areApart_42 rfl ?_
          refine J_iload (pc := 43) dX1_areApart_43 rfl ?_
          refine J_callS (pc := 45) (n := 2) (vs := [.int c1, .int v5]) (fun l => C_x_has l c1 v5 M4) (lw_S q757 q758 q116 q759) nmh_X1_has rfl (by omega) (by decide) rfl (Nat.le_of_ble_eq_true rfl) dX1_areApart_45 (fun v9 M5 => ?_)
          refine J_if_eq (pc := 48) 68 dX1_areApart_48 rfl (fun h => if_pos h) (fun h => if_neg h) (fun _ => ?_) (fun _ => ?_)
          · refine J_iconst (pc := 68) 1 dX1_areApart_68 (by decide) ?_
            refine J_goto (pc := 69) 73 dX1_areApart_69 rfl ?_
            exact J_sub (A := [some (.ref 20), some (.int c1), some (.int c2), none, some (.int c4), some (.int v5)]) ⟨rfl, ⟨rfl, ⟨rfl, ⟨rfl, ⟨rfl, trivial⟩⟩⟩⟩⟩ (hj1 1 M5)
          · refine J_aload_n (pc := 51) dX1_areApart_51 rfl ?_
            refine J_get (pc := 52) (c := 0) (.ref 64) rfl in_X1 55 (by decide) q239 rfl (fun h => sh_k1 h 0 rfl) (fun h _ => fv_ref (Or.inr ⟨_, rfl⟩) (sh_r h 43 rfl)) dX1_areApart_52 ?_
            refine J_bipush (pc := 55) 10 dX1_areApart_55 (by decide) ?_
            refine J_iload (pc := 57) dX1_areApart_57 rfl ?_
            refine J_imul (pc := 59) dX1_areApart_59 ?_
            refine J_iload (pc := 60) dX1_areApart_60 rfl ?_
            refine J_iadd (pc := 62) dX1_areApart_62 ?_
            refine J_ck (fun h2 => ?_)
            refine J_iald (pc := 63) (a := 64) (fun h => sh_a h 44 rfl h2) dX1_areApart_63 ?_
            refine J_iload_n (pc := 64) dX1_areApart_64 rfl ?_
            refine J_icmp_lt (pc := 65) 72 dX1_areApart_65 rfl (fun h => if_pos h) (fun h => if_neg h) (fun _ => ?_) (fun _ => ?_)
            · refine J_iconst (pc := 72) 0 dX1_areApart_72 (by decide) ?_
              exact J_sub (A := [some (.ref 20), some (.int c1), some (.int c2), none, some (.int c4), some (.int v5)]) ⟨rfl, ⟨rfl, ⟨rfl, ⟨rfl, ⟨rfl, trivial⟩⟩⟩⟩⟩ (hj1 0 M5)
            · refine J_iconst (pc := 68) 1 dX1_areApart_68 (by decide) ?_
              refine J_goto (pc := 69) 73 dX1_areApart_69 rfl ?_
              exact J_sub (A := [some (.ref 20), some (.int c1), some (.int c2), none, some (.int c4), some (.int v5)]) ⟨rfl, ⟨rfl, ⟨rfl, ⟨rfl, ⟨rfl, trivial⟩⟩⟩⟩⟩ (hj1 1 M5)

def x_areApart_L5 (c1 : Int32) (c2 : Int32) : Nat → Int32 → Int32 → PM → Option (Int32 × PM)
  | 0, _, _, _ => none
  | n + 1, v1, v2, M1 =>
    if (M1.i 20 11) ≤ v2 then (ckb (v1 = 0 ∨ v1 = 1) <|
    some (v1, M1))
    else (lt (v2 + 1) fun v3 =>
    x_areApart_L20 c1 c2 v2 (fun (v10 : Int32) (M6 : PM) =>
    lt (v2 + 1) fun v11 =>
    x_areApart_L5 c1 c2 n v10 v11 M6) FU v1 v3 M1)

set_option maxHeartbeats 4000000 in
theorem t_x_areApart_L5 (G : JG) (c1 : Int32) (c2 : Int32) : ∀ (n : Nat) (v1 : Int32) (v2 : Int32) (M1 : PM), T_x_areApart G  M1 5 [some (.ref 20), some (.int c1), some (.int c2), some (.int v1), some (.int v2), none] [] (x_areApart_L5 c1 c2 n v1 v2 M1) := by
  intro n
  induction n with
  | zero =>
    intro v1 v2 M1
    exact J_none
  | succ n ih =>
    intro v1 v2 M1
    rw [x_areApart_L5]
    refine J_iload (pc := 5) dX1_areApart_5 rfl ?_
    refine J_aload_n (pc := 7) dX1_areApart_7 rfl ?_
    refine J_get (pc := 8) (c := 0) (.int (M1.i 20 11)) rfl in_X1 11 (by decide) q188 rfl (fun h => sh_k1 h 0 rfl) (fun _ _ => rfl) dX1_areApart_8 ?_
    refine J_icmp_ge (pc := 11) 86 dX1_areApart_11 rfl (fun h => if_pos h) (fun h => if_neg h) (fun _ => ?_) (fun _ => ?_)
    · refine J_iload_n (pc := 86) dX1_areApart_86 rfl ?_
      refine J_ckb (fun h1 => ?_)
      exact J_zret (pc := 87) (nz h1) dX1_areApart_87
    · refine J_iload (pc := 14) dX1_areApart_14 rfl ?_
      refine J_iconst (pc := 16) 1 dX1_areApart_16 (by decide) ?_
      refine J_iadd (pc := 17) dX1_areApart_17 ?_
      refine J_lt (β := Int32) (v := (v2 + 1)) (L := fun _ => _) (S := fun v3 => [.int v3]) (fun v3 => ?_)
      refine J_istore (pc := 18) dX1_areApart_18 (by decide) ?_
      refine J_sub (A := [some (.ref 20), some (.int c1), some (.int c2), some (.int v1), some (.int v2), some (.int v3)]) ⟨rfl, ⟨rfl, ⟨rfl, ⟨rfl, ⟨rfl, ⟨rfl, trivial⟩⟩⟩⟩⟩⟩ (t_x_areApart_L20 G c1 c2 v2 _ ?_ FU v1 v3 M1)
      · intro v10 M6
        refine J_iincL (pc := 80) (n := 1) (by decide) dX1_areApart_80 rfl (by decide) (fun v11 => ?_)
        refine J_goto (pc := 83) 5 dX1_areApart_83 rfl ?_
        exact J_sub (A := [some (.ref 20), some (.int c1), some (.int c2), some (.int v10), some (.int v11), none]) ⟨rfl, ⟨rfl, ⟨rfl, ⟨rfl, ⟨rfl, trivial⟩⟩⟩⟩⟩ (ih v10 v11 M6)

def x_areApart (p1 : Int32) (p2 : Int32) (M : PM) : Option (Int32 × PM) :=
    x_areApart_L5 p1 p2 FU 1 0 M

set_option maxHeartbeats 4000000 in
theorem t_x_areApart (G : JG) (p1 : Int32) (p2 : Int32) (M : PM) : T_x_areApart G  M 0 (ent [.ref 20, .int p1, .int p2] 6) [] (x_areApart p1 p2 M) := by
  unfold x_areApart
  refine J_iconst (pc := 0) 1 dX1_areApart_0 (by decide) ?_
  refine J_istore_n (pc := 1) dX1_areApart_1 (by decide) ?_
  refine J_iconst (pc := 2) 0 dX1_areApart_2 (by decide) ?_
  refine J_istore (pc := 3) dX1_areApart_3 (by decide) ?_
  refine J_sub (A := [some (.ref 20), some (.int p1), some (.int p2), some (.int 1), some (.int 0), none]) ⟨rfl, ⟨rfl, ⟨rfl, ⟨rfl, ⟨rfl, trivial⟩⟩⟩⟩⟩ (t_x_areApart_L5 G p1 p2  FU 1 0 M)

theorem C_x_areApart (l : Launch) (p1 : Int32) (p2 : Int32) (M : PM) : Ctr l Sh yX1_areApart cX1_areApart 6 (some .boolean) 2 rvI [.ref 20, .int p1, .int p2] M (x_areApart p1 p2 M) := Ctr.of (by decide +kernel) (Nat.le_of_ble_eq_true rfl) (fun G => t_x_areApart G p1 p2 M)

abbrev T_x_tollOfAll (G : JG) (M : PM) (pc : Nat) (L : List (Option Value)) (S : List Value) (o : Option (Int32 × PM)) : Prop := JJ G cX1_tollOfAll yX1_tollOfAll 4 143 (some .int) Sh (finR G Sh rvI) M pc L S o
def x_tollOfAll_L4 (c1 : Int32) : Nat → Int32 → Int32 → PM → Option (Int32 × PM)
  | 0, _, _, _ => none
  | n + 1, v1, v2, M1 =>
    if (M1.i 20 11) ≤ v2 then (some (v1, M1))
    else (bd (x_has c1 v2 M1) fun v3 M2 =>
    jn (fun (v4 : Int32) (M3 : PM) =>
    lt (v1 + v4) fun v5 =>
    lt (v2 + 1) fun v6 =>
    x_tollOfAll_L4 c1 n v5 v6 M3) fun j1 =>
    if v3 = 0 then (j1 0 M2)
    else (bd (x_tollNow v2 0 M2) fun v7 M4 =>
    j1 v7 M4))

set_option maxHeartbeats 4000000 in
theorem t_x_tollOfAll_L4 (G : JG) (c1 : Int32) : ∀ (n : Nat) (v1 : Int32) (v2 : Int32) (M1 : PM), T_x_tollOfAll G  M1 4 [some (.ref 20), some (.int c1), some (.int v1), some (.int v2)] [] (x_tollOfAll_L4 c1 n v1 v2 M1) := by
  intro n
  induction n with
  | zero =>
    intro v1 v2 M1
    exact J_none
  | succ n ih =>
    intro v1 v2 M1
    rw [x_tollOfAll_L4]
    refine J_iload_n (pc := 4) dX1_tollOfAll_4 rfl ?_
    refine J_aload_n (pc := 5) dX1_tollOfAll_5 rfl ?_
    refine J_get (pc := 6) (c := 0) (.int (M1.i 20 11)) rfl in_X1 11 (by decide) q188 rfl (fun h => sh_k1 h 0 rfl) (fun _ _ => rfl) dX1_tollOfAll_6 ?_
    refine J_icmp_ge (pc := 9) 39 dX1_tollOfAll_9 rfl (fun h => if_pos h) (fun h => if_neg h) (fun _ => ?_) (fun _ => ?_)
    · refine J_iload_n (pc := 39) dX1_tollOfAll_39 rfl ?_
      exact J_iret (pc := 40) dX1_tollOfAll_40
    · refine J_iload_n (pc := 12) dX1_tollOfAll_12 rfl ?_
      refine J_iload_n (pc := 13) dX1_tollOfAll_13 rfl ?_
      refine J_iload_n (pc := 14) dX1_tollOfAll_14 rfl ?_
      refine J_callS (pc := 15) (n := 2) (vs := [.int c1, .int v2]) (fun l => C_x_has l c1 v2 M1) (lw_S q757 q758 q116 q759) nmh_X1_has rfl (by omega) (by decide) rfl (Nat.le_of_ble_eq_true rfl) dX1_tollOfAll_15 (fun v3 M2 => ?_)
      refine J_jn (P := fun J => ∀ (v4 : Int32) (M3 : PM), T_x_tollOfAll G  M3 31 [some (.ref 20), some (.int c1), none, some (.int v2)] [.int v4, .int v1] (J v4 M3)) (fun v4 M3 => ?_) (fun j1 hj1 => ?_)
      · refine J_iadd (pc := 31) dX1_tollOfAll_31 ?_
        refine J_lt (β := Int32) (v := (v1 + v4)) (L := fun _ => _) (S := fun v5 => [.int v5]) (fun v5 => ?_)
        refine J_istore_n (pc := 32) dX1_tollOfAll_32 (by decide) ?_
        refine J_iincL (pc := 33) (n := 1) (by decide) dX1_tollOfAll_33 rfl (by decide) (fun v6 => ?_)
        refine J_goto (pc := 36) 4 dX1_tollOfAll_36 rfl ?_
        exact J_sub (A := [some (.ref 20), some (.int c1), some (.int v5), some (.int v6)]) ⟨rfl, ⟨rfl, ⟨rfl, ⟨rfl, trivial⟩⟩⟩⟩ (ih v5 v6 M3)
      refine J_if_eq (pc := 18) 30 dX1_tollOfAll_18 rfl (fun h => if_pos h) (fun h => if_neg h) (fun _ => ?_) (fun _ => ?_)
      · refine J_iconst (pc := 30) 0 dX1_tollOfAll_30 (by decide) ?_
        exact J_sub (A := [some (.ref 20), some (.int c1), none, some (.int v2)]) ⟨rfl, ⟨rfl, ⟨rfl, trivial⟩⟩⟩ (hj1 0 M2)
      · refine J_aload_n (pc := 21) dX1_tollOfAll_21 rfl ?_
        refine J_iload_n (pc := 22) dX1_tollOfAll_22 rfl ?_
        refine J_iconst (pc := 23) 0 dX1_tollOfAll_23 (by decide) ?_
        refine J_callV (pc := 24) (n := 2) (b := 20) (vs := [.int v2, .int 0]) (ci := 0) (fun l => C_x_tollNow l v2 0 M2) (lw_V q800 q802 qs34 q116 q803) nmv_X1_tollNow rfl (by omega) (by decide) rfl (fun h => sh_k1 h 0 rfl) rfl (Nat.le_of_ble_eq_true rfl) dX1_tollOfAll_24 (fun v7 M4 => ?_)
        refine J_goto (pc := 27) 31 dX1_tollOfAll_27 rfl ?_
        exact J_sub (A := [some (.ref 20), some (.int c1), none, some (.int v2)]) ⟨rfl, ⟨rfl, ⟨rfl, trivial⟩⟩⟩ (hj1 v7 M4)

def x_tollOfAll (p1 : Int32) (M : PM) : Option (Int32 × PM) :=
    x_tollOfAll_L4 p1 FU 0 0 M

set_option maxHeartbeats 4000000 in
theorem t_x_tollOfAll (G : JG) (p1 : Int32) (M : PM) : T_x_tollOfAll G  M 0 (ent [.ref 20, .int p1] 4) [] (x_tollOfAll p1 M) := by
  unfold x_tollOfAll
  refine J_iconst (pc := 0) 0 dX1_tollOfAll_0 (by decide) ?_
  refine J_istore_n (pc := 1) dX1_tollOfAll_1 (by decide) ?_
  refine J_iconst (pc := 2) 0 dX1_tollOfAll_2 (by decide) ?_
  refine J_istore_n (pc := 3) dX1_tollOfAll_3 (by decide) ?_
  refine J_sub (A := [some (.ref 20), some (.int p1), some (.int 0), some (.int 0)]) ⟨rfl, ⟨rfl, ⟨rfl, ⟨rfl, trivial⟩⟩⟩⟩ (t_x_tollOfAll_L4 G p1  FU 0 0 M)

theorem C_x_tollOfAll (l : Launch) (p1 : Int32) (M : PM) : Ctr l Sh yX1_tollOfAll cX1_tollOfAll 4 (some .int) 143 rvI [.ref 20, .int p1] M (x_tollOfAll p1 M) := Ctr.of (by decide +kernel) (Nat.le_of_ble_eq_true rfl) (fun G => t_x_tollOfAll G p1 M)

abbrev T_x_code (G : JG) (M : PM) (pc : Nat) (L : List (Option Value)) (S : List Value) (o : Option (Int32 × PM)) : Prop := JJ G cX1_code yX1_code 5 144 (some .int) Sh (finR G Sh rvI) M pc L S o
def x_code_L28 (c1 : Int32) (c2 : Int32) (k60 : PM → Option (Int32 × PM)) : Nat → Int32 → PM → Option (Int32 × PM)
  | 0, _, _ => none
  | n + 1, v4, M3 =>
    if (M3.i 20 11) ≤ v4 then (k60 M3)
    else (bd (x_changesOf c2 v4 0 M3) fun v5 M4 =>
    ck ((10 * c2) + v4) 100 <|
    lt (M4.si 64 (ix ((10 * c2) + v4)) v5) fun M5 =>
    lt (v4 + 1) fun v6 =>
    x_code_L28 c1 c2 k60 n v6 M5)

set_option maxHeartbeats 4000000 in
theorem t_x_code_L28 (G : JG) (c1 : Int32) (c2 : Int32) (k60 : PM → Option (Int32 × PM)) (hk60 : ∀ Me, T_x_code G  Me 60 [some (.ref 20), some (.int c1), some (.int c2), none, none] [] (k60 Me)) : ∀ (n : Nat) (v4 : Int32) (M3 : PM), T_x_code G  M3 28 [some (.ref 20), some (.int c1), some (.int c2), some (.int v4), none] [] (x_code_L28 c1 c2 k60 n v4 M3) := by
  intro n
  induction n with
  | zero =>
    intro v4 M3
    exact J_none
  | succ n ih =>
    intro v4 M3
    rw [x_code_L28]
    refine J_iload_n (pc := 28) dX1_code_28 rfl ?_
    refine J_aload_n (pc := 29) dX1_code_29 rfl ?_
    refine J_get (pc := 30) (c := 0) (.int (M3.i 20 11)) rfl in_X1 11 (by decide) q188 rfl (fun h => sh_k1 h 0 rfl) (fun _ _ => rfl) dX1_code_30 ?_
    refine J_icmp_ge (pc := 33) 60 dX1_code_33 rfl (fun h => if_pos h) (fun h => if_neg h) (fun _ => ?_) (fun _ => ?_)
    · exact J_sub (A := [some (.ref 20), some (.int c1), some (.int c2), none, none]) ⟨rfl, ⟨rfl, ⟨rfl, trivial⟩⟩⟩ (hk60 M3)
    · refine J_aload_n (pc := 36) dX1_code_36 rfl ?_
      refine J_get (pc := 37) (c := 0) (.ref 64) rfl in_X1 55 (by decide) q239 rfl (fun h => sh_k1 h 0 rfl) (fun h _ => fv_ref (Or.inr ⟨_, rfl⟩) (sh_r h 43 rfl)) dX1_code_37 ?_
      refine J_bipush (pc := 40) 10 dX1_code_40 (by decide) ?_
      refine J_iload_n (pc := 42) dX1_code_42 rfl ?_
      refine J_imul (pc := 43) dX1_code_43 ?_
      refine J_iload_n (pc := 44) dX1_code_44 rfl ?_
      refine J_iadd (pc := 45) dX1_code_45 ?_
      refine J_aload_n (pc := 46) dX1_code_46 rfl ?_
      refine J_iload_n (pc := 47) dX1_code_47 rfl ?_
      refine J_iload_n (pc := 48) dX1_code_48 rfl ?_
      refine J_iconst (pc := 49) 0 dX1_code_49 (by decide) ?_
      refine J_callV (pc := 50) (n := 3) (b := 20) (vs := [.int c2, .int v4, .int 0]) (ci := 0) (fun l => C_x_changesOf l c2 v4 0 M3) (lw_V q841 q843 qs39 q116 q844) nmv_X1_changesOf rfl (by omega) (by decide) rfl (fun h => sh_k1 h 0 rfl) rfl (Nat.le_of_ble_eq_true rfl) dX1_code_50 (fun v5 M4 => ?_)
      refine J_ck (fun h1 => ?_)
      refine J_iast (pc := 53) (a := 64) (fun h => sh_a h 44 rfl h1) (fun h => Sh_si h) dX1_code_53 ?_
      refine J_ltM (fun M5 => ?_)
      refine J_iincL (pc := 54) (n := 1) (by decide) dX1_code_54 rfl (by decide) (fun v6 => ?_)
      refine J_goto (pc := 57) 28 dX1_code_57 rfl ?_
      exact J_sub (A := [some (.ref 20), some (.int c1), some (.int c2), some (.int v6), none]) ⟨rfl, ⟨rfl, ⟨rfl, ⟨rfl, trivial⟩⟩⟩⟩ (ih v6 M5)

def x_code_L16 (c1 : Int32) (k66 : PM → Option (Int32 × PM)) : Nat → Int32 → PM → Option (Int32 × PM)
  | 0, _, _ => none
  | n + 1, v2, M2 =>
    if (M2.i 20 11) ≤ v2 then (k66 M2)
    else (lt (v2 + 1) fun v3 =>
    x_code_L28 c1 v2 (fun (M6 : PM) =>
    lt (v2 + 1) fun v7 =>
    x_code_L16 c1 k66 n v7 M6) FU v3 M2)

set_option maxHeartbeats 4000000 in
theorem t_x_code_L16 (G : JG) (c1 : Int32) (k66 : PM → Option (Int32 × PM)) (hk66 : ∀ Me, T_x_code G  Me 66 [some (.ref 20), some (.int c1), none, none, none] [] (k66 Me)) : ∀ (n : Nat) (v2 : Int32) (M2 : PM), T_x_code G  M2 16 [some (.ref 20), some (.int c1), some (.int v2), none, none] [] (x_code_L16 c1 k66 n v2 M2) := by
  intro n
  induction n with
  | zero =>
    intro v2 M2
    exact J_none
  | succ n ih =>
    intro v2 M2
    rw [x_code_L16]
    refine J_iload_n (pc := 16) dX1_code_16 rfl ?_
    refine J_aload_n (pc := 17) dX1_code_17 rfl ?_
    refine J_get (pc := 18) (c := 0) (.int (M2.i 20 11)) rfl in_X1 11 (by decide) q188 rfl (fun h => sh_k1 h 0 rfl) (fun _ _ => rfl) dX1_code_18 ?_
    refine J_icmp_ge (pc := 21) 66 dX1_code_21 rfl (fun h => if_pos h) (fun h => if_neg h) (fun _ => ?_) (fun _ => ?_)
    · exact J_sub (A := [some (.ref 20), some (.int c1), none, none, none]) ⟨rfl, ⟨rfl, trivial⟩⟩ (hk66 M2)
    · refine J_iload_n (pc := 24) dX1_code_24 rfl ?_
      refine J_iconst (pc := 25) 1 dX1_code_25 (by decide) ?_
      refine J_iadd (pc := 26) dX1_code_26 ?_
      refine J_lt (β := Int32) (v := (v2 + 1)) (L := fun _ => _) (S := fun v3 => [.int v3]) (fun v3 => ?_)
      refine J_istore_n (pc := 27) dX1_code_27 (by decide) ?_
      refine J_sub (A := [some (.ref 20), some (.int c1), some (.int v2), some (.int v3), none]) ⟨rfl, ⟨rfl, ⟨rfl, ⟨rfl, trivial⟩⟩⟩⟩ (t_x_code_L28 G c1 v2 _ ?_ FU v3 M2)
      · intro M6
        refine J_iincL (pc := 60) (n := 1) (by decide) dX1_code_60 rfl (by decide) (fun v7 => ?_)
        refine J_goto (pc := 63) 16 dX1_code_63 rfl ?_
        exact J_sub (A := [some (.ref 20), some (.int c1), some (.int v7), none, none]) ⟨rfl, ⟨rfl, ⟨rfl, trivial⟩⟩⟩ (ih v7 M6)

def x_code_L70 (c1 : Int32) (k138 : Int32 → PM → Option (Int32 × PM)) : Nat → Int32 → Int32 → PM → Option (Int32 × PM)
  | 0, _, _, _ => none
  | n + 1, v8, v9, M8 =>
    if (1 <<< ((M8.i 20 11) &&& 31)) ≤ v9 then (k138 v8 M8)
    else (bd (jl_bitCount v9 M8) fun v10 M9 =>
    bd (jl_bitCount v8 M9) fun v11 M10 =>
    lt (v10 - v11) fun v12 =>
    jn (fun (v13 : Int32) (M11 : PM) =>
    lt (v9 + 1) fun v14 =>
    x_code_L70 c1 k138 n v13 v14 M11) fun j1 =>
    if v12 < 0 then (j1 v8 M10)
    else (bd (x_areApart v9 c1 M10) fun v15 M12 =>
    if v15 = 0 then (j1 v8 M12)
    else (jn (fun (v16 : Int32) (M13 : PM) =>
    j1 v16 M13) fun j2 =>
    if 0 < v12 then (j2 v9 M12)
    else (bd (x_tollOfAll v9 M12) fun v17 M14 =>
    bd (x_tollOfAll v8 M14) fun v18 M15 =>
    if v18 ≤ v17 then (j2 v8 M15)
    else (j2 v9 M15)))))

set_option maxHeartbeats 4000000 in
theorem t_x_code_L70 (G : JG) (c1 : Int32) (k138 : Int32 → PM → Option (Int32 × PM)) (hk138 : ∀ z2 Me, T_x_code G  Me 138 [some (.ref 20), none, some (.int z2), none, none] [] (k138 z2 Me)) : ∀ (n : Nat) (v8 : Int32) (v9 : Int32) (M8 : PM), T_x_code G  M8 70 [some (.ref 20), some (.int c1), some (.int v8), some (.int v9), none] [] (x_code_L70 c1 k138 n v8 v9 M8) := by
  intro n
  induction n with
  | zero =>
    intro v8 v9 M8
    exact J_none
  | succ n ih =>
    intro v8 v9 M8
    rw [x_code_L70]
    refine J_iload_n (pc := 70) dX1_code_70 rfl ?_
    refine J_iconst (pc := 71) 1 dX1_code_71 (by decide) ?_
    refine J_aload_n (pc := 72) dX1_code_72 rfl ?_
    refine J_get (pc := 73) (c := 0) (.int (M8.i 20 11)) rfl in_X1 11 (by decide) q188 rfl (fun h => sh_k1 h 0 rfl) (fun _ _ => rfl) dX1_code_73 ?_
    refine J_ishl (pc := 76) dX1_code_76 ?_
    refine J_icmp_ge (pc := 77) 138 dX1_code_77 rfl (fun h => if_pos h) (fun h => if_neg h) (fun _ => ?_) (fun _ => ?_)
    · exact J_sub (A := [some (.ref 20), none, some (.int v8), none, none]) ⟨rfl, ⟨rfl, trivial⟩⟩ (hk138 v8 M8)
    · refine J_iload_n (pc := 80) dX1_code_80 rfl ?_
      refine J_callS (pc := 81) (n := 1) (vs := [.int v9]) (fun l => C_jl_bitCount l v9 M8) (lw_S q866 q867 q135 q868) nmh_J10_bitCount rfl (by omega) (by decide) rfl (Nat.le_of_ble_eq_true rfl) dX1_code_81 (fun v10 M9 => ?_)
      refine J_iload_n (pc := 84) dX1_code_84 rfl ?_
      refine J_callS (pc := 85) (n := 1) (vs := [.int v8]) (fun l => C_jl_bitCount l v8 M9) (lw_S q866 q867 q135 q868) nmh_J10_bitCount rfl (by omega) (by decide) rfl (Nat.le_of_ble_eq_true rfl) dX1_code_85 (fun v11 M10 => ?_)
      refine J_isub (pc := 88) dX1_code_88 ?_
      refine J_lt (β := Int32) (v := (v10 - v11)) (L := fun _ => _) (S := fun v12 => [.int v12]) (fun v12 => ?_)
      refine J_istore (pc := 89) dX1_code_89 (by decide) ?_
      refine J_iload (pc := 91) dX1_code_91 rfl ?_
      refine J_jn (P := fun J => ∀ (v13 : Int32) (M11 : PM), T_x_code G  M11 132 [some (.ref 20), some (.int c1), some (.int v13), some (.int v9), none] [] (J v13 M11)) (fun v13 M11 => ?_) (fun j1 hj1 => ?_)
      · refine J_iincL (pc := 132) (n := 1) (by decide) dX1_code_132 rfl (by decide) (fun v14 => ?_)
        refine J_goto (pc := 135) 70 dX1_code_135 rfl ?_
        exact J_sub (A := [some (.ref 20), some (.int c1), some (.int v13), some (.int v14), none]) ⟨rfl, ⟨rfl, ⟨rfl, ⟨rfl, trivial⟩⟩⟩⟩ (ih v13 v14 M11)
      refine J_if_lt (pc := 93) 132 dX1_code_93 rfl (fun h => if_pos h) (fun h => if_neg h) (fun _ => ?_) (fun _ => ?_)
      · exact J_sub (A := [some (.ref 20), some (.int c1), some (.int v8), some (.int v9), none]) ⟨rfl, ⟨rfl, ⟨rfl, ⟨rfl, trivial⟩⟩⟩⟩ (hj1 v8 M10)
      · refine J_aload_n (pc := 96) dX1_code_96 rfl ?_
        refine J_iload_n (pc := 97) dX1_code_97 rfl ?_
        refine J_iload_n (pc := 98) dX1_code_98 rfl ?_
        refine J_callV (pc := 99) (n := 2) (b := 20) (vs := [.int v9, .int c1]) (ci := 0) (fun l => C_x_areApart l v9 c1 M10) (lw_V q872 q874 qs41 q116 q875) nmv_X1_areApart rfl (by omega) (by decide) rfl (fun h => sh_k1 h 0 rfl) rfl (Nat.le_of_ble_eq_true rfl) dX1_code_99 (fun v15 M12 => ?_)
        refine J_if_ne (pc := 102) 108 dX1_code_102 rfl (fun h => if_neg h) (fun h => if_pos h) (fun _ => ?_) (fun _ => ?_)
        · refine J_iload (pc := 108) dX1_code_108 rfl ?_
          refine J_jn (P := fun J => ∀ (v16 : Int32) (M13 : PM), T_x_code G  M13 131 [some (.ref 20), some (.int c1), none, some (.int v9), none] [.int v16] (J v16 M13)) (fun v16 M13 => ?_) (fun j2 hj2 => ?_)
          · refine J_istore_n (pc := 131) dX1_code_131 (by decide) ?_
            exact J_sub (A := [some (.ref 20), some (.int c1), some (.int v16), some (.int v9), none]) ⟨rfl, ⟨rfl, ⟨rfl, ⟨rfl, trivial⟩⟩⟩⟩ (hj1 v16 M13)
          refine J_if_gt (pc := 110) 126 dX1_code_110 rfl (fun h => if_pos h) (fun h => if_neg h) (fun _ => ?_) (fun _ => ?_)
          · refine J_iload_n (pc := 126) dX1_code_126 rfl ?_
            refine J_goto (pc := 127) 131 dX1_code_127 rfl ?_
            exact J_sub (A := [some (.ref 20), some (.int c1), none, some (.int v9), none]) ⟨rfl, ⟨rfl, ⟨rfl, trivial⟩⟩⟩ (hj2 v9 M12)
          · refine J_aload_n (pc := 113) dX1_code_113 rfl ?_
            refine J_iload_n (pc := 114) dX1_code_114 rfl ?_
            refine J_callV (pc := 115) (n := 1) (b := 20) (vs := [.int v9]) (ci := 0) (fun l => C_x_tollOfAll l v9 M12) (lw_V q876 q878 qs42 q116 q879) nmv_X1_tollOfAll rfl (by omega) (by decide) rfl (fun h => sh_k1 h 0 rfl) rfl (Nat.le_of_ble_eq_true rfl) dX1_code_115 (fun v17 M14 => ?_)
            refine J_aload_n (pc := 118) dX1_code_118 rfl ?_
            refine J_iload_n (pc := 119) dX1_code_119 rfl ?_
            refine J_callV (pc := 120) (n := 1) (b := 20) (vs := [.int v8]) (ci := 0) (fun l => C_x_tollOfAll l v8 M14) (lw_V q876 q878 qs42 q116 q879) nmv_X1_tollOfAll rfl (by omega) (by decide) rfl (fun h => sh_k1 h 0 rfl) rfl (Nat.le_of_ble_eq_true rfl) dX1_code_120 (fun v18 M15 => ?_)
            refine J_icmp_ge (pc := 123) 130 dX1_code_123 rfl (fun h => if_pos h) (fun h => if_neg h) (fun _ => ?_) (fun _ => ?_)
            · refine J_iload_n (pc := 130) dX1_code_130 rfl ?_
              exact J_sub (A := [some (.ref 20), some (.int c1), none, some (.int v9), none]) ⟨rfl, ⟨rfl, ⟨rfl, trivial⟩⟩⟩ (hj2 v8 M15)
            · refine J_iload_n (pc := 126) dX1_code_126 rfl ?_
              refine J_goto (pc := 127) 131 dX1_code_127 rfl ?_
              exact J_sub (A := [some (.ref 20), some (.int c1), none, some (.int v9), none]) ⟨rfl, ⟨rfl, ⟨rfl, trivial⟩⟩⟩ (hj2 v9 M15)
        · refine J_goto (pc := 105) 132 dX1_code_105 rfl ?_
          exact J_sub (A := [some (.ref 20), some (.int c1), some (.int v8), some (.int v9), none]) ⟨rfl, ⟨rfl, ⟨rfl, ⟨rfl, trivial⟩⟩⟩⟩ (hj1 v8 M12)

def x_code (p1 : Int32) (M : PM) : Option (Int32 × PM) :=
    bd (x_in (Int32.toInt64 p1) 0 6 M) fun v1 M1 =>
    if v1 = 0 then (some ((-1), M1))
    else (x_code_L16 p1 (fun (M7 : PM) =>
    x_code_L70 p1 (fun (v19 : Int32) (M16 : PM) =>
    lt (M16.si 20 67 0) fun M17 =>
    bd (x_tells (Int32.toInt64 v19) M17) fun _ M18 =>
    bd (jl_bitCount v19 M18) fun v20 M19 =>
    some (v20, M19)) FU 0 1 M7) FU 0 M1)

set_option maxHeartbeats 4000000 in
theorem t_x_code (G : JG) (p1 : Int32) (M : PM) : T_x_code G  M 0 (ent [.ref 20, .int p1] 5) [] (x_code p1 M) := by
  unfold x_code
  refine J_iload_n (pc := 0) dX1_code_0 rfl ?_
  refine J_i2l (pc := 1) dX1_code_1 ?_
  refine J_lconst (pc := 2) 0 dX1_code_2 (by decide) ?_
  refine J_ldc2 (pc := 3) 6 q565 dX1_code_3 ?_
  refine J_callS (pc := 6) (n := 3) (vs := [.long (Int32.toInt64 p1), .long 0, .long 6]) (fun l => C_x_in l (Int32.toInt64 p1) 0 6 M) (lw_S q398 q399 q116 q400) nmh_X1_in rfl (by omega) (by decide) rfl (Nat.le_of_ble_eq_true rfl) dX1_code_6 (fun v1 M1 => ?_)
  refine J_if_ne (pc := 9) 14 dX1_code_9 rfl (fun h => if_neg h) (fun h => if_pos h) (fun _ => ?_) (fun _ => ?_)
  · refine J_iconst (pc := 14) 0 dX1_code_14 (by decide) ?_
    refine J_istore_n (pc := 15) dX1_code_15 (by decide) ?_
    refine J_sub (A := [some (.ref 20), some (.int p1), some (.int 0), none, none]) ⟨rfl, ⟨rfl, ⟨rfl, trivial⟩⟩⟩ (t_x_code_L16 G p1 _ ?_ FU 0 M1)
    · intro M7
      refine J_iconst (pc := 66) 0 dX1_code_66 (by decide) ?_
      refine J_istore_n (pc := 67) dX1_code_67 (by decide) ?_
      refine J_iconst (pc := 68) 1 dX1_code_68 (by decide) ?_
      refine J_istore_n (pc := 69) dX1_code_69 (by decide) ?_
      refine J_sub (A := [some (.ref 20), some (.int p1), some (.int 0), some (.int 1), none]) ⟨rfl, ⟨rfl, ⟨rfl, ⟨rfl, trivial⟩⟩⟩⟩ (t_x_code_L70 G p1 _ ?_ FU 0 1 M7)
      · intro v19 M16
        refine J_aload_n (pc := 138) dX1_code_138 rfl ?_
        refine J_iconst (pc := 139) 0 dX1_code_139 (by decide) ?_
        refine J_put (pc := 140) (a := 20) (v := .int 0) (M' := M16.si 20 67 0) (c := 0) rfl in_X1 tyX1_ok fnX1 67 (by decide) q251 rfl (Or.inl rfl) (fun h => sh_k1 h 0 rfl) (fun _ => rfl) (fun _ => rfl) ⟨⟨rfl, rfl⟩, rfl⟩ (fun _ hb => up2_same hb) (fun _ _ => rfl) (fun _ _ => rfl) (put_i (fun _ _ _ => rfl)) (fun h => Sh_si h) dX1_code_140 ?_
        refine J_ltM (fun M17 => ?_)
        refine J_aload_n (pc := 143) dX1_code_143 rfl ?_
        refine J_iload_n (pc := 144) dX1_code_144 rfl ?_
        refine J_i2l (pc := 145) dX1_code_145 ?_
        refine J_callV (pc := 146) (n := 1) (b := 20) (vs := [.long (Int32.toInt64 v19)]) (ci := 0) (fun l => C_x_tells l (Int32.toInt64 v19) M17) (lw_V q708 q710 qs20 q116 q711) nmv_X1_tells rfl (by omega) (by decide) rfl (fun h => sh_k1 h 0 rfl) rfl (Nat.le_of_ble_eq_true rfl) dX1_code_146 (fun _ M18 => ?_)
        refine J_iload_n (pc := 149) dX1_code_149 rfl ?_
        refine J_callS (pc := 150) (n := 1) (vs := [.int v19]) (fun l => C_jl_bitCount l v19 M18) (lw_S q866 q867 q135 q868) nmh_J10_bitCount rfl (by omega) (by decide) rfl (Nat.le_of_ble_eq_true rfl) dX1_code_150 (fun v20 M19 => ?_)
        exact J_iret (pc := 153) dX1_code_153
  · refine J_iconst (pc := 12) (-1) dX1_code_12 (by decide) ?_
    exact J_iret (pc := 13) dX1_code_13

theorem C_x_code (l : Launch) (p1 : Int32) (M : PM) : Ctr l Sh yX1_code cX1_code 5 (some .int) 144 rvI [.ref 20, .int p1] M (x_code p1 M) := Ctr.of (by decide +kernel) (Nat.le_of_ble_eq_true rfl) (fun G => t_x_code G p1 M)

abbrev T_x_spot (G : JG) (M : PM) (pc : Nat) (L : List (Option Value)) (S : List Value) (o : Option (Int32 × PM)) : Prop := JJ G cX1_spot yX1_spot 3 1 (some .int) Sh (finR G Sh rvI) M pc L S o
def x_spot (p0 : Int32) (p1 : Int32) (p2 : Int32) (M : PM) : Option (Int32 × PM) :=
    some (((((6 * p0) + p1) * 256) + p2), M)

set_option maxHeartbeats 4000000 in
theorem t_x_spot (G : JG) (p0 : Int32) (p1 : Int32) (p2 : Int32) (M : PM) : T_x_spot G  M 0 (ent [.int p0, .int p1, .int p2] 3) [] (x_spot p0 p1 p2 M) := by
  unfold x_spot
  refine J_bipush (pc := 0) 6 dX1_spot_0 (by decide) ?_
  refine J_iload_n (pc := 2) dX1_spot_2 rfl ?_
  refine J_imul (pc := 3) dX1_spot_3 ?_
  refine J_iload_n (pc := 4) dX1_spot_4 rfl ?_
  refine J_iadd (pc := 5) dX1_spot_5 ?_
  refine J_sipush (pc := 6) 256 dX1_spot_6 (by decide) ?_
  refine J_imul (pc := 9) dX1_spot_9 ?_
  refine J_iload_n (pc := 10) dX1_spot_10 rfl ?_
  refine J_iadd (pc := 11) dX1_spot_11 ?_
  exact J_iret (pc := 12) dX1_spot_12

theorem C_x_spot (l : Launch) (p0 : Int32) (p1 : Int32) (p2 : Int32) (M : PM) : Ctr l Sh yX1_spot cX1_spot 3 (some .int) 1 rvI [.int p0, .int p1, .int p2] M (x_spot p0 p1 p2 M) := Ctr.of (by decide +kernel) (Nat.le_of_ble_eq_true rfl) (fun G => t_x_spot G p0 p1 p2 M)

abbrev T_x_doneIn (G : JG) (M : PM) (pc : Nat) (L : List (Option Value)) (S : List Value) (o : Option (Int32 × PM)) : Prop := JJ G cX1_doneIn yX1_doneIn 5 2 (some .int) Sh (finR G Sh rvI) M pc L S o
def x_doneIn_L7 (c1 : Int32) (c2 : Int32) : Nat → Int32 → Int32 → PM → Option (Int32 × PM)
  | 0, _, _, _ => none
  | n + 1, v1, v2, M1 =>
    if (M1.i 20 10) ≤ v2 then (some (v1, M1))
    else (bd (x_spot c1 v2 c2 M1) fun v3 M2 =>
    ck v3 19968 <|
    lt (imin v1 (M2.i 65 (ix v3))) fun v4 =>
    lt (v2 + 1) fun v5 =>
    x_doneIn_L7 c1 c2 n v4 v5 M2)

set_option maxHeartbeats 4000000 in
theorem t_x_doneIn_L7 (G : JG) (c1 : Int32) (c2 : Int32) : ∀ (n : Nat) (v1 : Int32) (v2 : Int32) (M1 : PM), T_x_doneIn G  M1 7 [some (.ref 20), some (.int c1), some (.int c2), some (.int v1), some (.int v2)] [] (x_doneIn_L7 c1 c2 n v1 v2 M1) := by
  intro n
  induction n with
  | zero =>
    intro v1 v2 M1
    exact J_none
  | succ n ih =>
    intro v1 v2 M1
    rw [x_doneIn_L7]
    refine J_iload (pc := 7) dX1_doneIn_7 rfl ?_
    refine J_aload_n (pc := 9) dX1_doneIn_9 rfl ?_
    refine J_get (pc := 10) (c := 0) (.int (M1.i 20 10)) rfl in_X1 10 (by decide) q187 rfl (fun h => sh_k1 h 0 rfl) (fun _ _ => rfl) dX1_doneIn_10 ?_
    refine J_icmp_ge (pc := 13) 39 dX1_doneIn_13 rfl (fun h => if_pos h) (fun h => if_neg h) (fun _ => ?_) (fun _ => ?_)
    · refine J_iload_n (pc := 39) dX1_doneIn_39 rfl ?_
      exact J_iret (pc := 40) dX1_doneIn_40
    · refine J_iload_n (pc := 16) dX1_doneIn_16 rfl ?_
      refine J_aload_n (pc := 17) dX1_doneIn_17 rfl ?_
      refine J_get (pc := 18) (c := 0) (.ref 65) rfl in_X1 56 (by decide) q240 rfl (fun h => sh_k1 h 0 rfl) (fun h _ => fv_ref (Or.inr ⟨_, rfl⟩) (sh_r h 44 rfl)) dX1_doneIn_18 ?_
      refine J_iload_n (pc := 21) dX1_doneIn_21 rfl ?_
      refine J_iload (pc := 22) dX1_doneIn_22 rfl ?_
      refine J_iload_n (pc := 24) dX1_doneIn_24 rfl ?_
      refine J_callS (pc := 25) (n := 3) (vs := [.int c1, .int v2, .int c2]) (fun l => C_x_spot l c1 v2 c2 M1) (lw_S q889 q890 q116 q891) nmh_X1_spot rfl (by omega) (by decide) rfl (Nat.le_of_ble_eq_true rfl) dX1_doneIn_25 (fun v3 M2 => ?_)
      refine J_ck (fun h1 => ?_)
      refine J_iald (pc := 28) (a := 65) (fun h => sh_a h 45 rfl h1) dX1_doneIn_28 ?_
      refine J_min (pc := 29) (by omega) q409 q410 q119 q411 (Nat.le_of_ble_eq_true rfl) dX1_doneIn_29 ?_
      refine J_lt (β := Int32) (v := (imin v1 (M2.i 65 (ix v3)))) (L := fun _ => _) (S := fun v4 => [.int v4]) (fun v4 => ?_)
      refine J_istore_n (pc := 32) dX1_doneIn_32 (by decide) ?_
      refine J_iincL (pc := 33) (n := 1) (by decide) dX1_doneIn_33 rfl (by decide) (fun v5 => ?_)
      refine J_goto (pc := 36) 7 dX1_doneIn_36 rfl ?_
      exact J_sub (A := [some (.ref 20), some (.int c1), some (.int c2), some (.int v4), some (.int v5)]) ⟨rfl, ⟨rfl, ⟨rfl, ⟨rfl, ⟨rfl, trivial⟩⟩⟩⟩⟩ (ih v4 v5 M2)

def x_doneIn (p1 : Int32) (p2 : Int32) (M : PM) : Option (Int32 × PM) :=
    x_doneIn_L7 p1 p2 FU 1000000000 0 M

set_option maxHeartbeats 4000000 in
theorem t_x_doneIn (G : JG) (p1 : Int32) (p2 : Int32) (M : PM) : T_x_doneIn G  M 0 (ent [.ref 20, .int p1, .int p2] 5) [] (x_doneIn p1 p2 M) := by
  unfold x_doneIn
  refine J_ldcw (pc := 0) 1000000000 q799 dX1_doneIn_0 ?_
  refine J_istore_n (pc := 3) dX1_doneIn_3 (by decide) ?_
  refine J_iconst (pc := 4) 0 dX1_doneIn_4 (by decide) ?_
  refine J_istore (pc := 5) dX1_doneIn_5 (by decide) ?_
  refine J_sub (A := [some (.ref 20), some (.int p1), some (.int p2), some (.int 1000000000), some (.int 0)]) ⟨rfl, ⟨rfl, ⟨rfl, ⟨rfl, ⟨rfl, trivial⟩⟩⟩⟩⟩ (t_x_doneIn_L7 G p1 p2  FU 1000000000 0 M)

theorem C_x_doneIn (l : Launch) (p1 : Int32) (p2 : Int32) (M : PM) : Ctr l Sh yX1_doneIn cX1_doneIn 5 (some .int) 2 rvI [.ref 20, .int p1, .int p2] M (x_doneIn p1 p2 M) := Ctr.of (by decide +kernel) (Nat.le_of_ble_eq_true rfl) (fun G => t_x_doneIn G p1 p2 M)

abbrev T_x_lessens (G : JG) (M : PM) (pc : Nat) (L : List (Option Value)) (S : List Value) (o : Option (Unit × PM)) : Prop := JJ G cX1_lessens yX1_lessens 3 1 none Sh (finR G Sh rvU) M pc L S o
def x_lessens (p1 : Int32) (p2 : Int32) (M : PM) : Option (Unit × PM) :=
    ck p1 19968 <|
    ck p1 19968 <|
    lt (M.si 65 (ix p1) (imin (M.i 65 (ix p1)) p2)) fun M1 =>
    some ((), M1)

set_option maxHeartbeats 4000000 in
theorem t_x_lessens (G : JG) (p1 : Int32) (p2 : Int32) (M : PM) : T_x_lessens G  M 0 (ent [.ref 20, .int p1, .int p2] 3) [] (x_lessens p1 p2 M) := by
  unfold x_lessens
  refine J_aload_n (pc := 0) dX1_lessens_0 rfl ?_
  refine J_get (pc := 1) (c := 0) (.ref 65) rfl in_X1 56 (by decide) q240 rfl (fun h => sh_k1 h 0 rfl) (fun h _ => fv_ref (Or.inr ⟨_, rfl⟩) (sh_r h 44 rfl)) dX1_lessens_1 ?_
  refine J_iload_n (pc := 4) dX1_lessens_4 rfl ?_
  refine J_aload_n (pc := 5) dX1_lessens_5 rfl ?_
  refine J_get (pc := 6) (c := 0) (.ref 65) rfl in_X1 56 (by decide) q240 rfl (fun h => sh_k1 h 0 rfl) (fun h _ => fv_ref (Or.inr ⟨_, rfl⟩) (sh_r h 44 rfl)) dX1_lessens_6 ?_
  refine J_iload_n (pc := 9) dX1_lessens_9 rfl ?_
  refine J_ck (fun h1 => ?_)
  refine J_iald (pc := 10) (a := 65) (fun h => sh_a h 45 rfl h1) dX1_lessens_10 ?_
  refine J_iload_n (pc := 11) dX1_lessens_11 rfl ?_
  refine J_min (pc := 12) (by omega) q409 q410 q119 q411 (Nat.le_of_ble_eq_true rfl) dX1_lessens_12 ?_
  refine J_ck (fun h2 => ?_)
  refine J_iast (pc := 15) (a := 65) (fun h => sh_a h 45 rfl h2) (fun h => Sh_si h) dX1_lessens_15 ?_
  refine J_ltM (fun M1 => ?_)
  exact J_ret (pc := 16) dX1_lessens_16

theorem C_x_lessens (l : Launch) (p1 : Int32) (p2 : Int32) (M : PM) : Ctr l Sh yX1_lessens cX1_lessens 3 none 1 rvU [.ref 20, .int p1, .int p2] M (x_lessens p1 p2 M) := Ctr.of (by decide +kernel) (Nat.le_of_ble_eq_true rfl) (fun G => t_x_lessens G p1 p2 M)

abbrev T_x_goesOn (G : JG) (M : PM) (pc : Nat) (L : List (Option Value)) (S : List Value) (o : Option (Unit × PM)) : Prop := JJ G cX1_goesOn yX1_goesOn 5 2 none Sh (finR G Sh rvU) M pc L S o
def x_goesOn_L27 (c1 : Int32) (c2 : Int32) (c3 : Int32) (k69 : PM → Option (Unit × PM)) : Nat → Int32 → PM → Option (Unit × PM)
  | 0, _, _ => none
  | n + 1, v3, M2 =>
    if (1 <<< ((M2.i 20 13) &&& 31)) ≤ v3 then (k69 M2)
    else (bd (x_spot (c1 + 1) c3 v3 M2) fun v4 M3 =>
    bd (x_spot c1 c2 v3 M3) fun v5 M4 =>
    ck v5 19968 <|
    bd (x_lessens v4 (M4.i 65 (ix v5)) M4) fun _ M5 =>
    lt (v3 + 1) fun v6 =>
    x_goesOn_L27 c1 c2 c3 k69 n v6 M5)

set_option maxHeartbeats 4000000 in
theorem t_x_goesOn_L27 (G : JG) (c1 : Int32) (c2 : Int32) (c3 : Int32) (k69 : PM → Option (Unit × PM)) (hk69 : ∀ Me, T_x_goesOn G  Me 69 [some (.ref 20), some (.int c1), some (.int c2), some (.int c3), none] [] (k69 Me)) : ∀ (n : Nat) (v3 : Int32) (M2 : PM), T_x_goesOn G  M2 27 [some (.ref 20), some (.int c1), some (.int c2), some (.int c3), some (.int v3)] [] (x_goesOn_L27 c1 c2 c3 k69 n v3 M2) := by
  intro n
  induction n with
  | zero =>
    intro v3 M2
    exact J_none
  | succ n ih =>
    intro v3 M2
    rw [x_goesOn_L27]
    refine J_iload (pc := 27) dX1_goesOn_27 rfl ?_
    refine J_iconst (pc := 29) 1 dX1_goesOn_29 (by decide) ?_
    refine J_aload_n (pc := 30) dX1_goesOn_30 rfl ?_
    refine J_get (pc := 31) (c := 0) (.int (M2.i 20 13)) rfl in_X1 13 (by decide) q190 rfl (fun h => sh_k1 h 0 rfl) (fun _ _ => rfl) dX1_goesOn_31 ?_
    refine J_ishl (pc := 34) dX1_goesOn_34 ?_
    refine J_icmp_ge (pc := 35) 69 dX1_goesOn_35 rfl (fun h => if_pos h) (fun h => if_neg h) (fun _ => ?_) (fun _ => ?_)
    · exact J_sub (A := [some (.ref 20), some (.int c1), some (.int c2), some (.int c3), none]) ⟨rfl, ⟨rfl, ⟨rfl, ⟨rfl, trivial⟩⟩⟩⟩ (hk69 M2)
    · refine J_aload_n (pc := 38) dX1_goesOn_38 rfl ?_
      refine J_iload_n (pc := 39) dX1_goesOn_39 rfl ?_
      refine J_iconst (pc := 40) 1 dX1_goesOn_40 (by decide) ?_
      refine J_iadd (pc := 41) dX1_goesOn_41 ?_
      refine J_iload_n (pc := 42) dX1_goesOn_42 rfl ?_
      refine J_iload (pc := 43) dX1_goesOn_43 rfl ?_
      refine J_callS (pc := 45) (n := 3) (vs := [.int (c1 + 1), .int c3, .int v3]) (fun l => C_x_spot l (c1 + 1) c3 v3 M2) (lw_S q889 q890 q116 q891) nmh_X1_spot rfl (by omega) (by decide) rfl (Nat.le_of_ble_eq_true rfl) dX1_goesOn_45 (fun v4 M3 => ?_)
      refine J_aload_n (pc := 48) dX1_goesOn_48 rfl ?_
      refine J_get (pc := 49) (c := 0) (.ref 65) rfl in_X1 56 (by decide) q240 rfl (fun h => sh_k1 h 0 rfl) (fun h _ => fv_ref (Or.inr ⟨_, rfl⟩) (sh_r h 44 rfl)) dX1_goesOn_49 ?_
      refine J_iload_n (pc := 52) dX1_goesOn_52 rfl ?_
      refine J_iload_n (pc := 53) dX1_goesOn_53 rfl ?_
      refine J_iload (pc := 54) dX1_goesOn_54 rfl ?_
      refine J_callS (pc := 56) (n := 3) (vs := [.int c1, .int c2, .int v3]) (fun l => C_x_spot l c1 c2 v3 M3) (lw_S q889 q890 q116 q891) nmh_X1_spot rfl (by omega) (by decide) rfl (Nat.le_of_ble_eq_true rfl) dX1_goesOn_56 (fun v5 M4 => ?_)
      refine J_ck (fun h1 => ?_)
      refine J_iald (pc := 59) (a := 65) (fun h => sh_a h 45 rfl h1) dX1_goesOn_59 ?_
      refine J_callV (pc := 60) (n := 2) (b := 20) (vs := [.int v4, .int (M4.i 65 (ix v5))]) (ci := 0) (fun l => C_x_lessens l v4 (M4.i 65 (ix v5)) M4) (lw_V q896 q898 qs45 q116 q899) nmv_X1_lessens rfl (by omega) (by decide) rfl (fun h => sh_k1 h 0 rfl) rfl (Nat.le_of_ble_eq_true rfl) dX1_goesOn_60 (fun _ M5 => ?_)
      refine J_iincL (pc := 63) (n := 1) (by decide) dX1_goesOn_63 rfl (by decide) (fun v6 => ?_)
      refine J_goto (pc := 66) 27 dX1_goesOn_66 rfl ?_
      exact J_sub (A := [some (.ref 20), some (.int c1), some (.int c2), some (.int c3), some (.int v6)]) ⟨rfl, ⟨rfl, ⟨rfl, ⟨rfl, ⟨rfl, trivial⟩⟩⟩⟩⟩ (ih v6 M5)

def x_goesOn_L8 (c1 : Int32) (c2 : Int32) : Nat → Int32 → PM → Option (Unit × PM)
  | 0, _, _ => none
  | n + 1, v2, M1 =>
    if (imin ((M1.i 20 10) - 1) (c2 + 1)) < v2 then (some ((), M1))
    else (x_goesOn_L27 c1 c2 v2 (fun (M6 : PM) =>
    lt (v2 + 1) fun v7 =>
    x_goesOn_L8 c1 c2 n v7 M6) FU 0 M1)

set_option maxHeartbeats 4000000 in
theorem t_x_goesOn_L8 (G : JG) (c1 : Int32) (c2 : Int32) : ∀ (n : Nat) (v2 : Int32) (M1 : PM), T_x_goesOn G  M1 8 [some (.ref 20), some (.int c1), some (.int c2), some (.int v2), none] [] (x_goesOn_L8 c1 c2 n v2 M1) := by
  intro n
  induction n with
  | zero =>
    intro v2 M1
    exact J_none
  | succ n ih =>
    intro v2 M1
    rw [x_goesOn_L8]
    refine J_iload_n (pc := 8) dX1_goesOn_8 rfl ?_
    refine J_aload_n (pc := 9) dX1_goesOn_9 rfl ?_
    refine J_get (pc := 10) (c := 0) (.int (M1.i 20 10)) rfl in_X1 10 (by decide) q187 rfl (fun h => sh_k1 h 0 rfl) (fun _ _ => rfl) dX1_goesOn_10 ?_
    refine J_iconst (pc := 13) 1 dX1_goesOn_13 (by decide) ?_
    refine J_isub (pc := 14) dX1_goesOn_14 ?_
    refine J_iload_n (pc := 15) dX1_goesOn_15 rfl ?_
    refine J_iconst (pc := 16) 1 dX1_goesOn_16 (by decide) ?_
    refine J_iadd (pc := 17) dX1_goesOn_17 ?_
    refine J_min (pc := 18) (by omega) q409 q410 q119 q411 (Nat.le_of_ble_eq_true rfl) dX1_goesOn_18 ?_
    refine J_icmp_gt (pc := 21) 75 dX1_goesOn_21 rfl (fun h => if_pos h) (fun h => if_neg h) (fun _ => ?_) (fun _ => ?_)
    · exact J_ret (pc := 75) dX1_goesOn_75
    · refine J_iconst (pc := 24) 0 dX1_goesOn_24 (by decide) ?_
      refine J_istore (pc := 25) dX1_goesOn_25 (by decide) ?_
      refine J_sub (A := [some (.ref 20), some (.int c1), some (.int c2), some (.int v2), some (.int 0)]) ⟨rfl, ⟨rfl, ⟨rfl, ⟨rfl, ⟨rfl, trivial⟩⟩⟩⟩⟩ (t_x_goesOn_L27 G c1 c2 v2 _ ?_ FU 0 M1)
      · intro M6
        refine J_iincL (pc := 69) (n := 1) (by decide) dX1_goesOn_69 rfl (by decide) (fun v7 => ?_)
        refine J_goto (pc := 72) 8 dX1_goesOn_72 rfl ?_
        exact J_sub (A := [some (.ref 20), some (.int c1), some (.int c2), some (.int v7), none]) ⟨rfl, ⟨rfl, ⟨rfl, ⟨rfl, trivial⟩⟩⟩⟩ (ih v7 M6)

def x_goesOn (p1 : Int32) (p2 : Int32) (M : PM) : Option (Unit × PM) :=
    lt (imax 0 (p2 - 1)) fun v1 =>
    x_goesOn_L8 p1 p2 FU v1 M

set_option maxHeartbeats 4000000 in
theorem t_x_goesOn (G : JG) (p1 : Int32) (p2 : Int32) (M : PM) : T_x_goesOn G  M 0 (ent [.ref 20, .int p1, .int p2] 5) [] (x_goesOn p1 p2 M) := by
  unfold x_goesOn
  refine J_iconst (pc := 0) 0 dX1_goesOn_0 (by decide) ?_
  refine J_iload_n (pc := 1) dX1_goesOn_1 rfl ?_
  refine J_iconst (pc := 2) 1 dX1_goesOn_2 (by decide) ?_
  refine J_isub (pc := 3) dX1_goesOn_3 ?_
  refine J_max (pc := 4) (by omega) q564 q454 q119 q455 (Nat.le_of_ble_eq_true rfl) dX1_goesOn_4 ?_
  refine J_lt (β := Int32) (v := (imax 0 (p2 - 1))) (L := fun _ => _) (S := fun v1 => [.int v1]) (fun v1 => ?_)
  refine J_istore_n (pc := 7) dX1_goesOn_7 (by decide) ?_
  refine J_sub (A := [some (.ref 20), some (.int p1), some (.int p2), some (.int v1), none]) ⟨rfl, ⟨rfl, ⟨rfl, ⟨rfl, trivial⟩⟩⟩⟩ (t_x_goesOn_L8 G p1 p2  FU v1 M)

theorem C_x_goesOn (l : Launch) (p1 : Int32) (p2 : Int32) (M : PM) : Ctr l Sh yX1_goesOn cX1_goesOn 5 none 2 rvU [.ref 20, .int p1, .int p2] M (x_goesOn p1 p2 M) := Ctr.of (by decide +kernel) (Nat.le_of_ble_eq_true rfl) (fun G => t_x_goesOn G p1 p2 M)

abbrev T_x_laysSayings (G : JG) (M : PM) (pc : Nat) (L : List (Option Value)) (S : List Value) (o : Option (Unit × PM)) : Prop := JJ G cX1_laysSayings yX1_laysSayings 7 142 none Sh (finR G Sh rvU) M pc L S o
def x_laysSayings_L17 (c1 : Int32) (c2 : Int32) (c3 : Int32) (c4 : Int32) (k110 : PM → Option (Unit × PM)) : Nat → Int32 → PM → Option (Unit × PM)
  | 0, _, _ => none
  | n + 1, v2, M2 =>
    jn (fun (M3 : PM) =>
    k110 M3) fun j1 =>
    if (M2.i 20 11) ≤ v2 then (j1 M2)
    else (bd (x_spot c2 c3 c4 M2) fun v3 M4 =>
    ck v3 19968 <|
    if 1000000000 ≤ (M4.i 65 (ix v3)) then (j1 M4)
    else (bd (x_doesBy c4 c1 c3 v2 M4) fun v4 M5 =>
    jn (fun (M6 : PM) =>
    lt (v2 + 1) fun v5 =>
    x_laysSayings_L17 c1 c2 c3 c4 k110 n v5 M6) fun j2 =>
    if v4 = 0 then (j2 M5)
    else (bd (x_spot c2 c3 (c4 ||| v4) M5) fun v6 M7 =>
    bd (x_spot c2 c3 c4 M7) fun v7 M8 =>
    ck v7 19968 <|
    bd (x_tollOf v2 c3 ((M8.i 21 4) + c2) M8) fun v8 M9 =>
    bd (x_lessens v6 ((M8.i 65 (ix v7)) + v8) M9) fun _ M10 =>
    j2 M10)))

set_option maxHeartbeats 4000000 in
theorem t_x_laysSayings_L17 (G : JG) (c1 : Int32) (c2 : Int32) (c3 : Int32) (c4 : Int32) (k110 : PM → Option (Unit × PM)) (hk110 : ∀ Me, T_x_laysSayings G  Me 110 [some (.ref 20), some (.int c1), some (.int c2), some (.int c3), some (.int c4), none, none] [] (k110 Me)) : ∀ (n : Nat) (v2 : Int32) (M2 : PM), T_x_laysSayings G  M2 17 [some (.ref 20), some (.int c1), some (.int c2), some (.int c3), some (.int c4), some (.int v2), none] [] (x_laysSayings_L17 c1 c2 c3 c4 k110 n v2 M2) := by
  intro n
  induction n with
  | zero =>
    intro v2 M2
    exact J_none
  | succ n ih =>
    intro v2 M2
    rw [x_laysSayings_L17]
    refine J_iload (pc := 17) dX1_laysSayings_17 rfl ?_
    refine J_aload_n (pc := 19) dX1_laysSayings_19 rfl ?_
    refine J_get (pc := 20) (c := 0) (.int (M2.i 20 11)) rfl in_X1 11 (by decide) q188 rfl (fun h => sh_k1 h 0 rfl) (fun _ _ => rfl) dX1_laysSayings_20 ?_
    refine J_jn (P := fun J => ∀ (M3 : PM), T_x_laysSayings G  M3 110 [some (.ref 20), some (.int c1), some (.int c2), some (.int c3), some (.int c4), none, none] [] (J M3)) (fun M3 => ?_) (fun j1 hj1 => ?_)
    · exact J_sub (A := [some (.ref 20), some (.int c1), some (.int c2), some (.int c3), some (.int c4), none, none]) ⟨rfl, ⟨rfl, ⟨rfl, ⟨rfl, ⟨rfl, trivial⟩⟩⟩⟩⟩ (hk110 M3)
    refine J_icmp_ge (pc := 23) 110 dX1_laysSayings_23 rfl (fun h => if_pos h) (fun h => if_neg h) (fun _ => ?_) (fun _ => ?_)
    · exact J_sub (A := [some (.ref 20), some (.int c1), some (.int c2), some (.int c3), some (.int c4), none, none]) ⟨rfl, ⟨rfl, ⟨rfl, ⟨rfl, ⟨rfl, trivial⟩⟩⟩⟩⟩ (hj1 M2)
    · refine J_aload_n (pc := 26) dX1_laysSayings_26 rfl ?_
      refine J_get (pc := 27) (c := 0) (.ref 65) rfl in_X1 56 (by decide) q240 rfl (fun h => sh_k1 h 0 rfl) (fun h _ => fv_ref (Or.inr ⟨_, rfl⟩) (sh_r h 44 rfl)) dX1_laysSayings_27 ?_
      refine J_iload_n (pc := 30) dX1_laysSayings_30 rfl ?_
      refine J_iload_n (pc := 31) dX1_laysSayings_31 rfl ?_
      refine J_iload (pc := 32) dX1_laysSayings_32 rfl ?_
      refine J_callS (pc := 34) (n := 3) (vs := [.int c2, .int c3, .int c4]) (fun l => C_x_spot l c2 c3 c4 M2) (lw_S q889 q890 q116 q891) nmh_X1_spot rfl (by omega) (by decide) rfl (Nat.le_of_ble_eq_true rfl) dX1_laysSayings_34 (fun v3 M4 => ?_)
      refine J_ck (fun h1 => ?_)
      refine J_iald (pc := 37) (a := 65) (fun h => sh_a h 45 rfl h1) dX1_laysSayings_37 ?_
      refine J_ldcw (pc := 38) 1000000000 q799 dX1_laysSayings_38 ?_
      refine J_icmp_ge (pc := 41) 110 dX1_laysSayings_41 rfl (fun h => if_pos h) (fun h => if_neg h) (fun _ => ?_) (fun _ => ?_)
      · exact J_sub (A := [some (.ref 20), some (.int c1), some (.int c2), some (.int c3), some (.int c4), none, none]) ⟨rfl, ⟨rfl, ⟨rfl, ⟨rfl, ⟨rfl, trivial⟩⟩⟩⟩⟩ (hj1 M4)
      · refine J_aload_n (pc := 44) dX1_laysSayings_44 rfl ?_
        refine J_iload (pc := 45) dX1_laysSayings_45 rfl ?_
        refine J_iload_n (pc := 47) dX1_laysSayings_47 rfl ?_
        refine J_iload_n (pc := 48) dX1_laysSayings_48 rfl ?_
        refine J_iload (pc := 49) dX1_laysSayings_49 rfl ?_
        refine J_callV (pc := 51) (n := 4) (b := 20) (vs := [.int c4, .int c1, .int c3, .int v2]) (ci := 0) (fun l => C_x_doesBy l c4 c1 c3 v2 M4) (lw_V q753 q755 qs26 q116 q756) nmv_X1_doesBy rfl (by omega) (by decide) rfl (fun h => sh_k1 h 0 rfl) rfl (Nat.le_of_ble_eq_true rfl) dX1_laysSayings_51 (fun v4 M5 => ?_)
        refine J_istore (pc := 54) dX1_laysSayings_54 (by decide) ?_
        refine J_iload (pc := 56) dX1_laysSayings_56 rfl ?_
        refine J_jn (P := fun J => ∀ (M6 : PM), T_x_laysSayings G  M6 104 [some (.ref 20), some (.int c1), some (.int c2), some (.int c3), some (.int c4), some (.int v2), none] [] (J M6)) (fun M6 => ?_) (fun j2 hj2 => ?_)
        · refine J_iincL (pc := 104) (n := 1) (by decide) dX1_laysSayings_104 rfl (by decide) (fun v5 => ?_)
          refine J_goto (pc := 107) 17 dX1_laysSayings_107 rfl ?_
          exact J_sub (A := [some (.ref 20), some (.int c1), some (.int c2), some (.int c3), some (.int c4), some (.int v5), none]) ⟨rfl, ⟨rfl, ⟨rfl, ⟨rfl, ⟨rfl, ⟨rfl, trivial⟩⟩⟩⟩⟩⟩ (ih v5 M6)
        refine J_if_eq (pc := 58) 104 dX1_laysSayings_58 rfl (fun h => if_pos h) (fun h => if_neg h) (fun _ => ?_) (fun _ => ?_)
        · exact J_sub (A := [some (.ref 20), some (.int c1), some (.int c2), some (.int c3), some (.int c4), some (.int v2), none]) ⟨rfl, ⟨rfl, ⟨rfl, ⟨rfl, ⟨rfl, ⟨rfl, trivial⟩⟩⟩⟩⟩⟩ (hj2 M5)
        · refine J_aload_n (pc := 61) dX1_laysSayings_61 rfl ?_
          refine J_iload_n (pc := 62) dX1_laysSayings_62 rfl ?_
          refine J_iload_n (pc := 63) dX1_laysSayings_63 rfl ?_
          refine J_iload (pc := 64) dX1_laysSayings_64 rfl ?_
          refine J_iload (pc := 66) dX1_laysSayings_66 rfl ?_
          refine J_ior (pc := 68) dX1_laysSayings_68 ?_
          refine J_callS (pc := 69) (n := 3) (vs := [.int c2, .int c3, .int (c4 ||| v4)]) (fun l => C_x_spot l c2 c3 (c4 ||| v4) M5) (lw_S q889 q890 q116 q891) nmh_X1_spot rfl (by omega) (by decide) rfl (Nat.le_of_ble_eq_true rfl) dX1_laysSayings_69 (fun v6 M7 => ?_)
          refine J_aload_n (pc := 72) dX1_laysSayings_72 rfl ?_
          refine J_get (pc := 73) (c := 0) (.ref 65) rfl in_X1 56 (by decide) q240 rfl (fun h => sh_k1 h 0 rfl) (fun h _ => fv_ref (Or.inr ⟨_, rfl⟩) (sh_r h 44 rfl)) dX1_laysSayings_73 ?_
          refine J_iload_n (pc := 76) dX1_laysSayings_76 rfl ?_
          refine J_iload_n (pc := 77) dX1_laysSayings_77 rfl ?_
          refine J_iload (pc := 78) dX1_laysSayings_78 rfl ?_
          refine J_callS (pc := 80) (n := 3) (vs := [.int c2, .int c3, .int c4]) (fun l => C_x_spot l c2 c3 c4 M7) (lw_S q889 q890 q116 q891) nmh_X1_spot rfl (by omega) (by decide) rfl (Nat.le_of_ble_eq_true rfl) dX1_laysSayings_80 (fun v7 M8 => ?_)
          refine J_ck (fun h2 => ?_)
          refine J_iald (pc := 83) (a := 65) (fun h => sh_a h 45 rfl h2) dX1_laysSayings_83 ?_
          refine J_aload_n (pc := 84) dX1_laysSayings_84 rfl ?_
          refine J_iload (pc := 85) dX1_laysSayings_85 rfl ?_
          refine J_iload_n (pc := 87) dX1_laysSayings_87 rfl ?_
          refine J_aload_n (pc := 88) dX1_laysSayings_88 rfl ?_
          refine J_get (pc := 89) (c := 0) (.ref 21) rfl in_X1 0 (by decide) q177 rfl (fun h => sh_k1 h 0 rfl) (fun h _ => fv_ref (Or.inl ⟨_, rfl⟩) (sh_r h 4 rfl)) dX1_laysSayings_89 ?_
          refine J_getN (host := "TollOnVowels") (pc := 92) (c := 1) (.int (M8.i 21 4)) rfl in_X2 4 (by decide) (by decide +kernel) rfl (fun h => sh_k1 h 1 rfl) (fun _ _ => rfl) dX1_laysSayings_92 ?_
          refine J_iload_n (pc := 95) dX1_laysSayings_95 rfl ?_
          refine J_iadd (pc := 96) dX1_laysSayings_96 ?_
          refine J_callV (pc := 97) (n := 3) (b := 20) (vs := [.int v2, .int c3, .int ((M8.i 21 4) + c2)]) (ci := 0) (fun l => C_x_tollOf l v2 c3 ((M8.i 21 4) + c2) M8) (lw_V q682 q684 qs18 q116 q685) nmv_X1_tollOf rfl (by omega) (by decide) rfl (fun h => sh_k1 h 0 rfl) rfl (Nat.le_of_ble_eq_true rfl) dX1_laysSayings_97 (fun v8 M9 => ?_)
          refine J_iadd (pc := 100) dX1_laysSayings_100 ?_
          refine J_callV (pc := 101) (n := 2) (b := 20) (vs := [.int v6, .int ((M8.i 65 (ix v7)) + v8)]) (ci := 0) (fun l => C_x_lessens l v6 ((M8.i 65 (ix v7)) + v8) M9) (lw_V q896 q898 qs45 q116 q899) nmv_X1_lessens rfl (by omega) (by decide) rfl (fun h => sh_k1 h 0 rfl) rfl (Nat.le_of_ble_eq_true rfl) dX1_laysSayings_101 (fun _ M10 => ?_)
          exact J_sub (A := [some (.ref 20), some (.int c1), some (.int c2), some (.int c3), some (.int c4), some (.int v2), none]) ⟨rfl, ⟨rfl, ⟨rfl, ⟨rfl, ⟨rfl, ⟨rfl, trivial⟩⟩⟩⟩⟩⟩ (hj2 M10)

def x_laysSayings_L3 (c1 : Int32) (c2 : Int32) (c3 : Int32) : Nat → Int32 → PM → Option (Unit × PM)
  | 0, _, _ => none
  | n + 1, v1, M1 =>
    if (1 <<< ((M1.i 20 13) &&& 31)) ≤ v1 then (some ((), M1))
    else (x_laysSayings_L17 c1 c2 c3 v1 (fun (M11 : PM) =>
    lt (v1 + 1) fun v9 =>
    x_laysSayings_L3 c1 c2 c3 n v9 M11) FU 0 M1)

set_option maxHeartbeats 4000000 in
theorem t_x_laysSayings_L3 (G : JG) (c1 : Int32) (c2 : Int32) (c3 : Int32) : ∀ (n : Nat) (v1 : Int32) (M1 : PM), T_x_laysSayings G  M1 3 [some (.ref 20), some (.int c1), some (.int c2), some (.int c3), some (.int v1), none, none] [] (x_laysSayings_L3 c1 c2 c3 n v1 M1) := by
  intro n
  induction n with
  | zero =>
    intro v1 M1
    exact J_none
  | succ n ih =>
    intro v1 M1
    rw [x_laysSayings_L3]
    refine J_iload (pc := 3) dX1_laysSayings_3 rfl ?_
    refine J_iconst (pc := 5) 1 dX1_laysSayings_5 (by decide) ?_
    refine J_aload_n (pc := 6) dX1_laysSayings_6 rfl ?_
    refine J_get (pc := 7) (c := 0) (.int (M1.i 20 13)) rfl in_X1 13 (by decide) q190 rfl (fun h => sh_k1 h 0 rfl) (fun _ _ => rfl) dX1_laysSayings_7 ?_
    refine J_ishl (pc := 10) dX1_laysSayings_10 ?_
    refine J_icmp_ge (pc := 11) 116 dX1_laysSayings_11 rfl (fun h => if_pos h) (fun h => if_neg h) (fun _ => ?_) (fun _ => ?_)
    · exact J_ret (pc := 116) dX1_laysSayings_116
    · refine J_iconst (pc := 14) 0 dX1_laysSayings_14 (by decide) ?_
      refine J_istore (pc := 15) dX1_laysSayings_15 (by decide) ?_
      refine J_sub (A := [some (.ref 20), some (.int c1), some (.int c2), some (.int c3), some (.int v1), some (.int 0), none]) ⟨rfl, ⟨rfl, ⟨rfl, ⟨rfl, ⟨rfl, ⟨rfl, trivial⟩⟩⟩⟩⟩⟩ (t_x_laysSayings_L17 G c1 c2 c3 v1 _ ?_ FU 0 M1)
      · intro M11
        refine J_iincL (pc := 110) (n := 1) (by decide) dX1_laysSayings_110 rfl (by decide) (fun v9 => ?_)
        refine J_goto (pc := 113) 3 dX1_laysSayings_113 rfl ?_
        exact J_sub (A := [some (.ref 20), some (.int c1), some (.int c2), some (.int c3), some (.int v9), none, none]) ⟨rfl, ⟨rfl, ⟨rfl, ⟨rfl, ⟨rfl, trivial⟩⟩⟩⟩⟩ (ih v9 M11)

def x_laysSayings (p1 : Int32) (p2 : Int32) (p3 : Int32) (M : PM) : Option (Unit × PM) :=
    x_laysSayings_L3 p1 p2 p3 FU 0 M

set_option maxHeartbeats 4000000 in
theorem t_x_laysSayings (G : JG) (p1 : Int32) (p2 : Int32) (p3 : Int32) (M : PM) : T_x_laysSayings G  M 0 (ent [.ref 20, .int p1, .int p2, .int p3] 7) [] (x_laysSayings p1 p2 p3 M) := by
  unfold x_laysSayings
  refine J_iconst (pc := 0) 0 dX1_laysSayings_0 (by decide) ?_
  refine J_istore (pc := 1) dX1_laysSayings_1 (by decide) ?_
  refine J_sub (A := [some (.ref 20), some (.int p1), some (.int p2), some (.int p3), some (.int 0), none, none]) ⟨rfl, ⟨rfl, ⟨rfl, ⟨rfl, ⟨rfl, trivial⟩⟩⟩⟩⟩ (t_x_laysSayings_L3 G p1 p2 p3  FU 0 M)

theorem C_x_laysSayings (l : Launch) (p1 : Int32) (p2 : Int32) (p3 : Int32) (M : PM) : Ctr l Sh yX1_laysSayings cX1_laysSayings 7 none 142 rvU [.ref 20, .int p1, .int p2, .int p3] M (x_laysSayings p1 p2 p3 M) := Ctr.of (by decide +kernel) (Nat.le_of_ble_eq_true rfl) (fun G => t_x_laysSayings G p1 p2 p3 M)

abbrev T_x_laysTrip (G : JG) (M : PM) (pc : Nat) (L : List (Option Value)) (S : List Value) (o : Option (Unit × PM)) : Prop := JJ G cX1_laysTrip yX1_laysTrip 5 143 none Sh (finR G Sh rvU) M pc L S o
def x_laysTrip_L2 (c1 : Int32) (c2 : Int32) (k26 : PM → Option (Unit × PM)) : Nat → Int32 → PM → Option (Unit × PM)
  | 0, _, _ => none
  | n + 1, v1, M1 =>
    if (Int32.ofNat (M1.k 65).2) ≤ v1 then (k26 M1)
    else (ck v1 19968 <|
    lt (M1.si 65 (ix v1) 1000000000) fun M2 =>
    lt (v1 + 1) fun v2 =>
    x_laysTrip_L2 c1 c2 k26 n v2 M2)

set_option maxHeartbeats 4000000 in
theorem t_x_laysTrip_L2 (G : JG) (c1 : Int32) (c2 : Int32) (k26 : PM → Option (Unit × PM)) (hk26 : ∀ Me, T_x_laysTrip G  Me 26 [some (.ref 20), some (.int c1), some (.int c2), none, none] [] (k26 Me)) : ∀ (n : Nat) (v1 : Int32) (M1 : PM), T_x_laysTrip G  M1 2 [some (.ref 20), some (.int c1), some (.int c2), some (.int v1), none] [] (x_laysTrip_L2 c1 c2 k26 n v1 M1) := by
  intro n
  induction n with
  | zero =>
    intro v1 M1
    exact J_none
  | succ n ih =>
    intro v1 M1
    rw [x_laysTrip_L2]
    refine J_iload_n (pc := 2) dX1_laysTrip_2 rfl ?_
    refine J_aload_n (pc := 3) dX1_laysTrip_3 rfl ?_
    refine J_get (pc := 4) (c := 0) (.ref 65) rfl in_X1 56 (by decide) q240 rfl (fun h => sh_k1 h 0 rfl) (fun h _ => fv_ref (Or.inr ⟨_, rfl⟩) (sh_r h 44 rfl)) dX1_laysTrip_4 ?_
    refine J_alen (pc := 7) (c := 20) (by decide) (by decide) (fun h => sh_k1 h 45 rfl) dX1_laysTrip_7 ?_
    refine J_icmp_ge (pc := 8) 26 dX1_laysTrip_8 rfl (fun h => if_pos h) (fun h => if_neg h) (fun _ => ?_) (fun _ => ?_)
    · exact J_sub (A := [some (.ref 20), some (.int c1), some (.int c2), none, none]) ⟨rfl, ⟨rfl, ⟨rfl, trivial⟩⟩⟩ (hk26 M1)
    · refine J_aload_n (pc := 11) dX1_laysTrip_11 rfl ?_
      refine J_get (pc := 12) (c := 0) (.ref 65) rfl in_X1 56 (by decide) q240 rfl (fun h => sh_k1 h 0 rfl) (fun h _ => fv_ref (Or.inr ⟨_, rfl⟩) (sh_r h 44 rfl)) dX1_laysTrip_12 ?_
      refine J_iload_n (pc := 15) dX1_laysTrip_15 rfl ?_
      refine J_ldcw (pc := 16) 1000000000 q799 dX1_laysTrip_16 ?_
      refine J_ck (fun h1 => ?_)
      refine J_iast (pc := 19) (a := 65) (fun h => sh_a h 45 rfl h1) (fun h => Sh_si h) dX1_laysTrip_19 ?_
      refine J_ltM (fun M2 => ?_)
      refine J_iincL (pc := 20) (n := 1) (by decide) dX1_laysTrip_20 rfl (by decide) (fun v2 => ?_)
      refine J_goto (pc := 23) 2 dX1_laysTrip_23 rfl ?_
      exact J_sub (A := [some (.ref 20), some (.int c1), some (.int c2), some (.int v2), none]) ⟨rfl, ⟨rfl, ⟨rfl, ⟨rfl, trivial⟩⟩⟩⟩ (ih v2 M2)

def x_laysTrip_L62 (c1 : Int32) (c2 : Int32) (c3 : Int32) (k85 : PM → Option (Unit × PM)) : Nat → Int32 → PM → Option (Unit × PM)
  | 0, _, _ => none
  | n + 1, v5, M7 =>
    if (M7.i 20 10) ≤ v5 then (k85 M7)
    else (bd (x_laysSayings c1 c3 v5 M7) fun _ M8 =>
    lt (v5 + 1) fun v6 =>
    x_laysTrip_L62 c1 c2 c3 k85 n v6 M8)

set_option maxHeartbeats 4000000 in
theorem t_x_laysTrip_L62 (G : JG) (c1 : Int32) (c2 : Int32) (c3 : Int32) (k85 : PM → Option (Unit × PM)) (hk85 : ∀ Me, T_x_laysTrip G  Me 85 [some (.ref 20), some (.int c1), some (.int c2), some (.int c3), none] [] (k85 Me)) : ∀ (n : Nat) (v5 : Int32) (M7 : PM), T_x_laysTrip G  M7 62 [some (.ref 20), some (.int c1), some (.int c2), some (.int c3), some (.int v5)] [] (x_laysTrip_L62 c1 c2 c3 k85 n v5 M7) := by
  intro n
  induction n with
  | zero =>
    intro v5 M7
    exact J_none
  | succ n ih =>
    intro v5 M7
    rw [x_laysTrip_L62]
    refine J_iload (pc := 62) dX1_laysTrip_62 rfl ?_
    refine J_aload_n (pc := 64) dX1_laysTrip_64 rfl ?_
    refine J_get (pc := 65) (c := 0) (.int (M7.i 20 10)) rfl in_X1 10 (by decide) q187 rfl (fun h => sh_k1 h 0 rfl) (fun _ _ => rfl) dX1_laysTrip_65 ?_
    refine J_icmp_ge (pc := 68) 85 dX1_laysTrip_68 rfl (fun h => if_pos h) (fun h => if_neg h) (fun _ => ?_) (fun _ => ?_)
    · exact J_sub (A := [some (.ref 20), some (.int c1), some (.int c2), some (.int c3), none]) ⟨rfl, ⟨rfl, ⟨rfl, ⟨rfl, trivial⟩⟩⟩⟩ (hk85 M7)
    · refine J_aload_n (pc := 71) dX1_laysTrip_71 rfl ?_
      refine J_iload_n (pc := 72) dX1_laysTrip_72 rfl ?_
      refine J_iload_n (pc := 73) dX1_laysTrip_73 rfl ?_
      refine J_iload (pc := 74) dX1_laysTrip_74 rfl ?_
      refine J_callV (pc := 76) (n := 3) (b := 20) (vs := [.int c1, .int c3, .int v5]) (ci := 0) (fun l => C_x_laysSayings l c1 c3 v5 M7) (lw_V q892 q894 qs44 q116 q895) nmv_X1_laysSayings rfl (by omega) (by decide) rfl (fun h => sh_k1 h 0 rfl) rfl (Nat.le_of_ble_eq_true rfl) dX1_laysTrip_76 (fun _ M8 => ?_)
      refine J_iincL (pc := 79) (n := 1) (by decide) dX1_laysTrip_79 rfl (by decide) (fun v6 => ?_)
      refine J_goto (pc := 82) 62 dX1_laysTrip_82 rfl ?_
      exact J_sub (A := [some (.ref 20), some (.int c1), some (.int c2), some (.int c3), some (.int v6)]) ⟨rfl, ⟨rfl, ⟨rfl, ⟨rfl, ⟨rfl, trivial⟩⟩⟩⟩⟩ (ih v6 M8)

def x_laysTrip_L88 (c1 : Int32) (c2 : Int32) (c3 : Int32) (k115 : PM → Option (Unit × PM)) : Nat → Int32 → PM → Option (Unit × PM)
  | 0, _, _ => none
  | n + 1, v7, M10 =>
    jn (fun (M11 : PM) =>
    k115 M11) fun j1 =>
    if (M10.i 20 10) ≤ v7 then (j1 M10)
    else (if c2 ≤ c3 then (j1 M10)
    else (bd (x_goesOn c3 v7 M10) fun _ M12 =>
    lt (v7 + 1) fun v8 =>
    x_laysTrip_L88 c1 c2 c3 k115 n v8 M12))

set_option maxHeartbeats 4000000 in
theorem t_x_laysTrip_L88 (G : JG) (c1 : Int32) (c2 : Int32) (c3 : Int32) (k115 : PM → Option (Unit × PM)) (hk115 : ∀ Me, T_x_laysTrip G  Me 115 [some (.ref 20), some (.int c1), some (.int c2), some (.int c3), none] [] (k115 Me)) : ∀ (n : Nat) (v7 : Int32) (M10 : PM), T_x_laysTrip G  M10 88 [some (.ref 20), some (.int c1), some (.int c2), some (.int c3), some (.int v7)] [] (x_laysTrip_L88 c1 c2 c3 k115 n v7 M10) := by
  intro n
  induction n with
  | zero =>
    intro v7 M10
    exact J_none
  | succ n ih =>
    intro v7 M10
    rw [x_laysTrip_L88]
    refine J_iload (pc := 88) dX1_laysTrip_88 rfl ?_
    refine J_aload_n (pc := 90) dX1_laysTrip_90 rfl ?_
    refine J_get (pc := 91) (c := 0) (.int (M10.i 20 10)) rfl in_X1 10 (by decide) q187 rfl (fun h => sh_k1 h 0 rfl) (fun _ _ => rfl) dX1_laysTrip_91 ?_
    refine J_jn (P := fun J => ∀ (M11 : PM), T_x_laysTrip G  M11 115 [some (.ref 20), some (.int c1), some (.int c2), some (.int c3), none] [] (J M11)) (fun M11 => ?_) (fun j1 hj1 => ?_)
    · exact J_sub (A := [some (.ref 20), some (.int c1), some (.int c2), some (.int c3), none]) ⟨rfl, ⟨rfl, ⟨rfl, ⟨rfl, trivial⟩⟩⟩⟩ (hk115 M11)
    refine J_icmp_ge (pc := 94) 115 dX1_laysTrip_94 rfl (fun h => if_pos h) (fun h => if_neg h) (fun _ => ?_) (fun _ => ?_)
    · exact J_sub (A := [some (.ref 20), some (.int c1), some (.int c2), some (.int c3), none]) ⟨rfl, ⟨rfl, ⟨rfl, ⟨rfl, trivial⟩⟩⟩⟩ (hj1 M10)
    · refine J_iload_n (pc := 97) dX1_laysTrip_97 rfl ?_
      refine J_iload_n (pc := 98) dX1_laysTrip_98 rfl ?_
      refine J_icmp_ge (pc := 99) 115 dX1_laysTrip_99 rfl (fun h => if_pos h) (fun h => if_neg h) (fun _ => ?_) (fun _ => ?_)
      · exact J_sub (A := [some (.ref 20), some (.int c1), some (.int c2), some (.int c3), none]) ⟨rfl, ⟨rfl, ⟨rfl, ⟨rfl, trivial⟩⟩⟩⟩ (hj1 M10)
      · refine J_aload_n (pc := 102) dX1_laysTrip_102 rfl ?_
        refine J_iload_n (pc := 103) dX1_laysTrip_103 rfl ?_
        refine J_iload (pc := 104) dX1_laysTrip_104 rfl ?_
        refine J_callV (pc := 106) (n := 2) (b := 20) (vs := [.int c3, .int v7]) (ci := 0) (fun l => C_x_goesOn l c3 v7 M10) (lw_V q900 q902 qs46 q116 q903) nmv_X1_goesOn rfl (by omega) (by decide) rfl (fun h => sh_k1 h 0 rfl) rfl (Nat.le_of_ble_eq_true rfl) dX1_laysTrip_106 (fun _ M12 => ?_)
        refine J_iincL (pc := 109) (n := 1) (by decide) dX1_laysTrip_109 rfl (by decide) (fun v8 => ?_)
        refine J_goto (pc := 112) 88 dX1_laysTrip_112 rfl ?_
        exact J_sub (A := [some (.ref 20), some (.int c1), some (.int c2), some (.int c3), some (.int v8)]) ⟨rfl, ⟨rfl, ⟨rfl, ⟨rfl, ⟨rfl, trivial⟩⟩⟩⟩⟩ (ih v8 M12)

def x_laysTrip_L54 (c1 : Int32) (c2 : Int32) : Nat → Int32 → PM → Option (Unit × PM)
  | 0, _, _ => none
  | n + 1, v4, M6 =>
    if c2 < v4 then (some ((), M6))
    else (x_laysTrip_L62 c1 c2 v4 (fun (M9 : PM) =>
    x_laysTrip_L88 c1 c2 v4 (fun (M13 : PM) =>
    lt (v4 + 1) fun v9 =>
    x_laysTrip_L54 c1 c2 n v9 M13) FU 0 M9) FU 0 M6)

set_option maxHeartbeats 4000000 in
theorem t_x_laysTrip_L54 (G : JG) (c1 : Int32) (c2 : Int32) : ∀ (n : Nat) (v4 : Int32) (M6 : PM), T_x_laysTrip G  M6 54 [some (.ref 20), some (.int c1), some (.int c2), some (.int v4), none] [] (x_laysTrip_L54 c1 c2 n v4 M6) := by
  intro n
  induction n with
  | zero =>
    intro v4 M6
    exact J_none
  | succ n ih =>
    intro v4 M6
    rw [x_laysTrip_L54]
    refine J_iload_n (pc := 54) dX1_laysTrip_54 rfl ?_
    refine J_iload_n (pc := 55) dX1_laysTrip_55 rfl ?_
    refine J_icmp_gt (pc := 56) 121 dX1_laysTrip_56 rfl (fun h => if_pos h) (fun h => if_neg h) (fun _ => ?_) (fun _ => ?_)
    · exact J_ret (pc := 121) dX1_laysTrip_121
    · refine J_iconst (pc := 59) 0 dX1_laysTrip_59 (by decide) ?_
      refine J_istore (pc := 60) dX1_laysTrip_60 (by decide) ?_
      refine J_sub (A := [some (.ref 20), some (.int c1), some (.int c2), some (.int v4), some (.int 0)]) ⟨rfl, ⟨rfl, ⟨rfl, ⟨rfl, ⟨rfl, trivial⟩⟩⟩⟩⟩ (t_x_laysTrip_L62 G c1 c2 v4 _ ?_ FU 0 M6)
      · intro M9
        refine J_iconst (pc := 85) 0 dX1_laysTrip_85 (by decide) ?_
        refine J_istore (pc := 86) dX1_laysTrip_86 (by decide) ?_
        refine J_sub (A := [some (.ref 20), some (.int c1), some (.int c2), some (.int v4), some (.int 0)]) ⟨rfl, ⟨rfl, ⟨rfl, ⟨rfl, ⟨rfl, trivial⟩⟩⟩⟩⟩ (t_x_laysTrip_L88 G c1 c2 v4 _ ?_ FU 0 M9)
        · intro M13
          refine J_iincL (pc := 115) (n := 1) (by decide) dX1_laysTrip_115 rfl (by decide) (fun v9 => ?_)
          refine J_goto (pc := 118) 54 dX1_laysTrip_118 rfl ?_
          exact J_sub (A := [some (.ref 20), some (.int c1), some (.int c2), some (.int v9), none]) ⟨rfl, ⟨rfl, ⟨rfl, ⟨rfl, trivial⟩⟩⟩⟩ (ih v9 M13)

def x_laysTrip (p1 : Int32) (p2 : Int32) (M : PM) : Option (Unit × PM) :=
    x_laysTrip_L2 p1 p2 (fun (M3 : PM) =>
    ck p1 4 <|
    bd (x_spot 0 (M3.i 22 (ix p1)) (M3.i 21 5) M3) fun v3 M4 =>
    ck v3 19968 <|
    lt (M4.si 65 (ix v3) 0) fun M5 =>
    x_laysTrip_L54 p1 p2 FU 0 M5) FU 0 M

set_option maxHeartbeats 4000000 in
theorem t_x_laysTrip (G : JG) (p1 : Int32) (p2 : Int32) (M : PM) : T_x_laysTrip G  M 0 (ent [.ref 20, .int p1, .int p2] 5) [] (x_laysTrip p1 p2 M) := by
  unfold x_laysTrip
  refine J_iconst (pc := 0) 0 dX1_laysTrip_0 (by decide) ?_
  refine J_istore_n (pc := 1) dX1_laysTrip_1 (by decide) ?_
  refine J_sub (A := [some (.ref 20), some (.int p1), some (.int p2), some (.int 0), none]) ⟨rfl, ⟨rfl, ⟨rfl, ⟨rfl, trivial⟩⟩⟩⟩ (t_x_laysTrip_L2 G p1 p2 _ ?_ FU 0 M)
  · intro M3
    refine J_aload_n (pc := 26) dX1_laysTrip_26 rfl ?_
    refine J_get (pc := 27) (c := 0) (.ref 65) rfl in_X1 56 (by decide) q240 rfl (fun h => sh_k1 h 0 rfl) (fun h _ => fv_ref (Or.inr ⟨_, rfl⟩) (sh_r h 44 rfl)) dX1_laysTrip_27 ?_
    refine J_iconst (pc := 30) 0 dX1_laysTrip_30 (by decide) ?_
    refine J_aload_n (pc := 31) dX1_laysTrip_31 rfl ?_
    refine J_get (pc := 32) (c := 0) (.ref 21) rfl in_X1 0 (by decide) q177 rfl (fun h => sh_k1 h 0 rfl) (fun h _ => fv_ref (Or.inl ⟨_, rfl⟩) (sh_r h 4 rfl)) dX1_laysTrip_32 ?_
    refine J_getN (host := "TollOnVowels") (pc := 35) (c := 1) (.ref 22) rfl in_X2 0 (by decide) (by decide +kernel) rfl (fun h => sh_k1 h 1 rfl) (fun h _ => fv_ref (Or.inr ⟨_, rfl⟩) (sh_r h 0 rfl)) dX1_laysTrip_35 ?_
    refine J_iload_n (pc := 38) dX1_laysTrip_38 rfl ?_
    refine J_ck (fun h2 => ?_)
    refine J_iald (pc := 39) (a := 22) (fun h => sh_a h 2 rfl h2) dX1_laysTrip_39 ?_
    refine J_aload_n (pc := 40) dX1_laysTrip_40 rfl ?_
    refine J_get (pc := 41) (c := 0) (.ref 21) rfl in_X1 0 (by decide) q177 rfl (fun h => sh_k1 h 0 rfl) (fun h _ => fv_ref (Or.inl ⟨_, rfl⟩) (sh_r h 4 rfl)) dX1_laysTrip_41 ?_
    refine J_getN (host := "TollOnVowels") (pc := 44) (c := 1) (.int (M3.i 21 5)) rfl in_X2 5 (by decide) (by decide +kernel) rfl (fun h => sh_k1 h 1 rfl) (fun _ _ => rfl) dX1_laysTrip_44 ?_
    refine J_callS (pc := 47) (n := 3) (vs := [.int 0, .int (M3.i 22 (ix p1)), .int (M3.i 21 5)]) (fun l => C_x_spot l 0 (M3.i 22 (ix p1)) (M3.i 21 5) M3) (lw_S q889 q890 q116 q891) nmh_X1_spot rfl (by omega) (by decide) rfl (Nat.le_of_ble_eq_true rfl) dX1_laysTrip_47 (fun v3 M4 => ?_)
    refine J_iconst (pc := 50) 0 dX1_laysTrip_50 (by decide) ?_
    refine J_ck (fun h3 => ?_)
    refine J_iast (pc := 51) (a := 65) (fun h => sh_a h 45 rfl h3) (fun h => Sh_si h) dX1_laysTrip_51 ?_
    refine J_ltM (fun M5 => ?_)
    refine J_iconst (pc := 52) 0 dX1_laysTrip_52 (by decide) ?_
    refine J_istore_n (pc := 53) dX1_laysTrip_53 (by decide) ?_
    refine J_sub (A := [some (.ref 20), some (.int p1), some (.int p2), some (.int 0), none]) ⟨rfl, ⟨rfl, ⟨rfl, ⟨rfl, trivial⟩⟩⟩⟩ (t_x_laysTrip_L54 G p1 p2  FU 0 M5)

theorem C_x_laysTrip (l : Launch) (p1 : Int32) (p2 : Int32) (M : PM) : Ctr l Sh yX1_laysTrip cX1_laysTrip 5 none 143 rvU [.ref 20, .int p1, .int p2] M (x_laysTrip p1 p2 M) := Ctr.of (by decide +kernel) (Nat.le_of_ble_eq_true rfl) (fun G => t_x_laysTrip G p1 p2 M)

abbrev T_x_trip (G : JG) (M : PM) (pc : Nat) (L : List (Option Value)) (S : List Value) (o : Option (Int32 × PM)) : Prop := JJ G cX1_trip yX1_trip 6 144 (some .int) Sh (finR G Sh rvI) M pc L S o
def x_trip_L64 (c1 : Int32) (c3 : Int32) (c4 : Int32) (k82 : Int32 → PM → Option (Int32 × PM)) : Nat → Int32 → PM → Option (Int32 × PM)
  | 0, _, _ => none
  | n + 1, v6, M6 =>
    bd (x_doneIn v6 c3 M6) fun v7 M7 =>
    if v7 = c4 then (k82 v6 M7)
    else (lt (v6 + 1) fun v8 =>
    x_trip_L64 c1 c3 c4 k82 n v8 M7)

set_option maxHeartbeats 4000000 in
theorem t_x_trip_L64 (G : JG) (c1 : Int32) (c3 : Int32) (c4 : Int32) (k82 : Int32 → PM → Option (Int32 × PM)) (hk82 : ∀ z5 Me, T_x_trip G  Me 82 [some (.ref 20), some (.int c1), none, none, some (.int c4), some (.int z5)] [] (k82 z5 Me)) : ∀ (n : Nat) (v6 : Int32) (M6 : PM), T_x_trip G  M6 64 [some (.ref 20), some (.int c1), none, some (.int c3), some (.int c4), some (.int v6)] [] (x_trip_L64 c1 c3 c4 k82 n v6 M6) := by
  intro n
  induction n with
  | zero =>
    intro v6 M6
    exact J_none
  | succ n ih =>
    intro v6 M6
    rw [x_trip_L64]
    refine J_aload_n (pc := 64) dX1_trip_64 rfl ?_
    refine J_iload (pc := 65) dX1_trip_65 rfl ?_
    refine J_iload_n (pc := 67) dX1_trip_67 rfl ?_
    refine J_callV (pc := 68) (n := 2) (b := 20) (vs := [.int v6, .int c3]) (ci := 0) (fun l => C_x_doneIn l v6 c3 M6) (lw_V q904 q906 qs47 q116 q907) nmv_X1_doneIn rfl (by omega) (by decide) rfl (fun h => sh_k1 h 0 rfl) rfl (Nat.le_of_ble_eq_true rfl) dX1_trip_68 (fun v7 M7 => ?_)
    refine J_iload (pc := 71) dX1_trip_71 rfl ?_
    refine J_icmp_eq (pc := 73) 82 dX1_trip_73 rfl (fun h => if_pos h) (fun h => if_neg h) (fun _ => ?_) (fun _ => ?_)
    · exact J_sub (A := [some (.ref 20), some (.int c1), none, none, some (.int c4), some (.int v6)]) ⟨rfl, ⟨rfl, ⟨rfl, ⟨rfl, trivial⟩⟩⟩⟩ (hk82 v6 M7)
    · refine J_iincL (pc := 76) (n := 1) (by decide) dX1_trip_76 rfl (by decide) (fun v8 => ?_)
      refine J_goto (pc := 79) 64 dX1_trip_79 rfl ?_
      exact J_sub (A := [some (.ref 20), some (.int c1), none, some (.int c3), some (.int c4), some (.int v8)]) ⟨rfl, ⟨rfl, ⟨rfl, ⟨rfl, ⟨rfl, trivial⟩⟩⟩⟩⟩ (ih v8 M7)

def x_trip (p1 : Int32) (p2 : Int32) (M : PM) : Option (Int32 × PM) :=
    bd (x_isTraveller p1 M) fun v1 M1 =>
    if v1 = 0 then (some ((-1), M1))
    else (bd (x_in (Int32.toInt64 p2) 0 12 M1) fun v2 M2 =>
    if v2 = 0 then (some ((-1), M2))
    else (bd (x_laysTrip p1 p2 M2) fun _ M3 =>
    bd (x_errandsOf p1 M3) fun v3 M4 =>
    lt ((M3.i 21 5) ||| v3) fun v4 =>
    bd (x_doneIn p2 v4 M4) fun v5 M5 =>
    if v5 < 1000000000 then (x_trip_L64 p1 v4 v5 (fun (v9 : Int32) (M8 : PM) =>
    lt (M8.si 20 67 0) fun M9 =>
    bd (x_tells (Int32.toInt64 v9) M9) fun _ M10 =>
    bd (x_errandsOf p1 M10) fun v10 M11 =>
    bd (jl_bitCount v10 M11) fun v11 M12 =>
    bd (x_tells (Int32.toInt64 v11) M12) fun _ M13 =>
    some (v5, M13)) FU 0 M5)
    else (some ((-2), M5))))

set_option maxHeartbeats 4000000 in
theorem t_x_trip (G : JG) (p1 : Int32) (p2 : Int32) (M : PM) : T_x_trip G  M 0 (ent [.ref 20, .int p1, .int p2] 6) [] (x_trip p1 p2 M) := by
  unfold x_trip
  refine J_aload_n (pc := 0) dX1_trip_0 rfl ?_
  refine J_iload_n (pc := 1) dX1_trip_1 rfl ?_
  refine J_callV (pc := 2) (n := 1) (b := 20) (vs := [.int p1]) (ci := 0) (fun l => C_x_isTraveller l p1 M) (lw_V q720 q722 qs22 q116 q723) nmv_X1_isTraveller rfl (by omega) (by decide) rfl (fun h => sh_k1 h 0 rfl) rfl (Nat.le_of_ble_eq_true rfl) dX1_trip_2 (fun v1 M1 => ?_)
  refine J_if_eq (pc := 5) 20 dX1_trip_5 rfl (fun h => if_pos h) (fun h => if_neg h) (fun _ => ?_) (fun _ => ?_)
  · refine J_iconst (pc := 20) (-1) dX1_trip_20 (by decide) ?_
    exact J_iret (pc := 21) dX1_trip_21
  · refine J_iload_n (pc := 8) dX1_trip_8 rfl ?_
    refine J_i2l (pc := 9) dX1_trip_9 ?_
    refine J_lconst (pc := 10) 0 dX1_trip_10 (by decide) ?_
    refine J_ldc2 (pc := 11) 12 q884 dX1_trip_11 ?_
    refine J_callS (pc := 14) (n := 3) (vs := [.long (Int32.toInt64 p2), .long 0, .long 12]) (fun l => C_x_in l (Int32.toInt64 p2) 0 12 M1) (lw_S q398 q399 q116 q400) nmh_X1_in rfl (by omega) (by decide) rfl (Nat.le_of_ble_eq_true rfl) dX1_trip_14 (fun v2 M2 => ?_)
    refine J_if_ne (pc := 17) 22 dX1_trip_17 rfl (fun h => if_neg h) (fun h => if_pos h) (fun _ => ?_) (fun _ => ?_)
    · refine J_aload_n (pc := 22) dX1_trip_22 rfl ?_
      refine J_iload_n (pc := 23) dX1_trip_23 rfl ?_
      refine J_iload_n (pc := 24) dX1_trip_24 rfl ?_
      refine J_callV (pc := 25) (n := 2) (b := 20) (vs := [.int p1, .int p2]) (ci := 0) (fun l => C_x_laysTrip l p1 p2 M2) (lw_V q885 q887 qs43 q116 q888) nmv_X1_laysTrip rfl (by omega) (by decide) rfl (fun h => sh_k1 h 0 rfl) rfl (Nat.le_of_ble_eq_true rfl) dX1_trip_25 (fun _ M3 => ?_)
      refine J_aload_n (pc := 28) dX1_trip_28 rfl ?_
      refine J_get (pc := 29) (c := 0) (.ref 21) rfl in_X1 0 (by decide) q177 rfl (fun h => sh_k1 h 0 rfl) (fun h _ => fv_ref (Or.inl ⟨_, rfl⟩) (sh_r h 4 rfl)) dX1_trip_29 ?_
      refine J_getN (host := "TollOnVowels") (pc := 32) (c := 1) (.int (M3.i 21 5)) rfl in_X2 5 (by decide) (by decide +kernel) rfl (fun h => sh_k1 h 1 rfl) (fun _ _ => rfl) dX1_trip_32 ?_
      refine J_aload_n (pc := 35) dX1_trip_35 rfl ?_
      refine J_iload_n (pc := 36) dX1_trip_36 rfl ?_
      refine J_callV (pc := 37) (n := 1) (b := 20) (vs := [.int p1]) (ci := 0) (fun l => C_x_errandsOf l p1 M3) (lw_V q791 q793 qs32 q116 q794) nmv_X1_errandsOf rfl (by omega) (by decide) rfl (fun h => sh_k1 h 0 rfl) rfl (Nat.le_of_ble_eq_true rfl) dX1_trip_37 (fun v3 M4 => ?_)
      refine J_ior (pc := 40) dX1_trip_40 ?_
      refine J_lt (β := Int32) (v := ((M3.i 21 5) ||| v3)) (L := fun _ => _) (S := fun v4 => [.int v4]) (fun v4 => ?_)
      refine J_istore_n (pc := 41) dX1_trip_41 (by decide) ?_
      refine J_aload_n (pc := 42) dX1_trip_42 rfl ?_
      refine J_iload_n (pc := 43) dX1_trip_43 rfl ?_
      refine J_iload_n (pc := 44) dX1_trip_44 rfl ?_
      refine J_callV (pc := 45) (n := 2) (b := 20) (vs := [.int p2, .int v4]) (ci := 0) (fun l => C_x_doneIn l p2 v4 M4) (lw_V q904 q906 qs47 q116 q907) nmv_X1_doneIn rfl (by omega) (by decide) rfl (fun h => sh_k1 h 0 rfl) rfl (Nat.le_of_ble_eq_true rfl) dX1_trip_45 (fun v5 M5 => ?_)
      refine J_istore (pc := 48) dX1_trip_48 (by decide) ?_
      refine J_iload (pc := 50) dX1_trip_50 rfl ?_
      refine J_ldcw (pc := 52) 1000000000 q799 dX1_trip_52 ?_
      refine J_icmp_lt (pc := 55) 61 dX1_trip_55 rfl (fun h => if_pos h) (fun h => if_neg h) (fun _ => ?_) (fun _ => ?_)
      · refine J_iconst (pc := 61) 0 dX1_trip_61 (by decide) ?_
        refine J_istore (pc := 62) dX1_trip_62 (by decide) ?_
        refine J_sub (A := [some (.ref 20), some (.int p1), none, some (.int v4), some (.int v5), some (.int 0)]) ⟨rfl, ⟨rfl, ⟨rfl, ⟨rfl, ⟨rfl, trivial⟩⟩⟩⟩⟩ (t_x_trip_L64 G p1 v4 v5 _ ?_ FU 0 M5)
        · intro v9 M8
          refine J_aload_n (pc := 82) dX1_trip_82 rfl ?_
          refine J_iconst (pc := 83) 0 dX1_trip_83 (by decide) ?_
          refine J_put (pc := 84) (a := 20) (v := .int 0) (M' := M8.si 20 67 0) (c := 0) rfl in_X1 tyX1_ok fnX1 67 (by decide) q251 rfl (Or.inl rfl) (fun h => sh_k1 h 0 rfl) (fun _ => rfl) (fun _ => rfl) ⟨⟨rfl, rfl⟩, rfl⟩ (fun _ hb => up2_same hb) (fun _ _ => rfl) (fun _ _ => rfl) (put_i (fun _ _ _ => rfl)) (fun h => Sh_si h) dX1_trip_84 ?_
          refine J_ltM (fun M9 => ?_)
          refine J_aload_n (pc := 87) dX1_trip_87 rfl ?_
          refine J_iload (pc := 88) dX1_trip_88 rfl ?_
          refine J_i2l (pc := 90) dX1_trip_90 ?_
          refine J_callV (pc := 91) (n := 1) (b := 20) (vs := [.long (Int32.toInt64 v9)]) (ci := 0) (fun l => C_x_tells l (Int32.toInt64 v9) M9) (lw_V q708 q710 qs20 q116 q711) nmv_X1_tells rfl (by omega) (by decide) rfl (fun h => sh_k1 h 0 rfl) rfl (Nat.le_of_ble_eq_true rfl) dX1_trip_91 (fun _ M10 => ?_)
          refine J_aload_n (pc := 94) dX1_trip_94 rfl ?_
          refine J_aload_n (pc := 95) dX1_trip_95 rfl ?_
          refine J_iload_n (pc := 96) dX1_trip_96 rfl ?_
          refine J_callV (pc := 97) (n := 1) (b := 20) (vs := [.int p1]) (ci := 0) (fun l => C_x_errandsOf l p1 M10) (lw_V q791 q793 qs32 q116 q794) nmv_X1_errandsOf rfl (by omega) (by decide) rfl (fun h => sh_k1 h 0 rfl) rfl (Nat.le_of_ble_eq_true rfl) dX1_trip_97 (fun v10 M11 => ?_)
          refine J_callS (pc := 100) (n := 1) (vs := [.int v10]) (fun l => C_jl_bitCount l v10 M11) (lw_S q866 q867 q135 q868) nmh_J10_bitCount rfl (by omega) (by decide) rfl (Nat.le_of_ble_eq_true rfl) dX1_trip_100 (fun v11 M12 => ?_)
          refine J_i2l (pc := 103) dX1_trip_103 ?_
          refine J_callV (pc := 104) (n := 1) (b := 20) (vs := [.long (Int32.toInt64 v11)]) (ci := 0) (fun l => C_x_tells l (Int32.toInt64 v11) M12) (lw_V q708 q710 qs20 q116 q711) nmv_X1_tells rfl (by omega) (by decide) rfl (fun h => sh_k1 h 0 rfl) rfl (Nat.le_of_ble_eq_true rfl) dX1_trip_104 (fun _ M13 => ?_)
          refine J_iload (pc := 107) dX1_trip_107 rfl ?_
          exact J_iret (pc := 109) dX1_trip_109
      · refine J_bipush (pc := 58) (-2) dX1_trip_58 (by decide) ?_
        exact J_iret (pc := 60) dX1_trip_60
    · refine J_iconst (pc := 20) (-1) dX1_trip_20 (by decide) ?_
      exact J_iret (pc := 21) dX1_trip_21

theorem C_x_trip (l : Launch) (p1 : Int32) (p2 : Int32) (M : PM) : Ctr l Sh yX1_trip cX1_trip 6 (some .int) 144 rvI [.ref 20, .int p1, .int p2] M (x_trip p1 p2 M) := Ctr.of (by decide +kernel) (Nat.le_of_ble_eq_true rfl) (fun G => t_x_trip G p1 p2 M)

abbrev T_x_haste (G : JG) (M : PM) (pc : Nat) (L : List (Option Value)) (S : List Value) (o : Option (Int32 × PM)) : Prop := JJ G cX1_haste yX1_haste 4 144 (some .int) Sh (finR G Sh rvI) M pc L S o
def x_haste_L33 (c2 : Int32) (k57 : Int32 → PM → Option (Int32 × PM)) : Nat → Int32 → PM → Option (Int32 × PM)
  | 0, _, _ => none
  | n + 1, v4, M4 =>
    jn (fun (M5 : PM) =>
    k57 v4 M5) fun j1 =>
    if 12 < v4 then (j1 M4)
    else (bd (x_doneIn v4 c2 M4) fun v5 M6 =>
    if v5 < 1000000000 then (j1 M6)
    else (lt (v4 + 1) fun v6 =>
    x_haste_L33 c2 k57 n v6 M6))

set_option maxHeartbeats 4000000 in
theorem t_x_haste_L33 (G : JG) (c2 : Int32) (k57 : Int32 → PM → Option (Int32 × PM)) (hk57 : ∀ z3 Me, T_x_haste G  Me 57 [some (.ref 20), none, some (.int c2), some (.int z3)] [] (k57 z3 Me)) : ∀ (n : Nat) (v4 : Int32) (M4 : PM), T_x_haste G  M4 33 [some (.ref 20), none, some (.int c2), some (.int v4)] [] (x_haste_L33 c2 k57 n v4 M4) := by
  intro n
  induction n with
  | zero =>
    intro v4 M4
    exact J_none
  | succ n ih =>
    intro v4 M4
    rw [x_haste_L33]
    refine J_iload_n (pc := 33) dX1_haste_33 rfl ?_
    refine J_bipush (pc := 34) 12 dX1_haste_34 (by decide) ?_
    refine J_jn (P := fun J => ∀ (M5 : PM), T_x_haste G  M5 57 [some (.ref 20), none, some (.int c2), some (.int v4)] [] (J M5)) (fun M5 => ?_) (fun j1 hj1 => ?_)
    · exact J_sub (A := [some (.ref 20), none, some (.int c2), some (.int v4)]) ⟨rfl, ⟨rfl, ⟨rfl, trivial⟩⟩⟩ (hk57 v4 M5)
    refine J_icmp_gt (pc := 36) 57 dX1_haste_36 rfl (fun h => if_pos h) (fun h => if_neg h) (fun _ => ?_) (fun _ => ?_)
    · exact J_sub (A := [some (.ref 20), none, some (.int c2), some (.int v4)]) ⟨rfl, ⟨rfl, ⟨rfl, trivial⟩⟩⟩ (hj1 M4)
    · refine J_aload_n (pc := 39) dX1_haste_39 rfl ?_
      refine J_iload_n (pc := 40) dX1_haste_40 rfl ?_
      refine J_iload_n (pc := 41) dX1_haste_41 rfl ?_
      refine J_callV (pc := 42) (n := 2) (b := 20) (vs := [.int v4, .int c2]) (ci := 0) (fun l => C_x_doneIn l v4 c2 M4) (lw_V q904 q906 qs47 q116 q907) nmv_X1_doneIn rfl (by omega) (by decide) rfl (fun h => sh_k1 h 0 rfl) rfl (Nat.le_of_ble_eq_true rfl) dX1_haste_42 (fun v5 M6 => ?_)
      refine J_ldcw (pc := 45) 1000000000 q799 dX1_haste_45 ?_
      refine J_icmp_lt (pc := 48) 57 dX1_haste_48 rfl (fun h => if_pos h) (fun h => if_neg h) (fun _ => ?_) (fun _ => ?_)
      · exact J_sub (A := [some (.ref 20), none, some (.int c2), some (.int v4)]) ⟨rfl, ⟨rfl, ⟨rfl, trivial⟩⟩⟩ (hj1 M6)
      · refine J_iincL (pc := 51) (n := 1) (by decide) dX1_haste_51 rfl (by decide) (fun v6 => ?_)
        refine J_goto (pc := 54) 33 dX1_haste_54 rfl ?_
        exact J_sub (A := [some (.ref 20), none, some (.int c2), some (.int v6)]) ⟨rfl, ⟨rfl, ⟨rfl, trivial⟩⟩⟩ (ih v6 M6)

def x_haste (p1 : Int32) (M : PM) : Option (Int32 × PM) :=
    bd (x_isTraveller p1 M) fun v1 M1 =>
    if v1 = 0 then (some ((-1), M1))
    else (bd (x_laysTrip p1 12 M1) fun _ M2 =>
    bd (x_errandsOf p1 M2) fun v2 M3 =>
    lt ((M2.i 21 5) ||| v2) fun v3 =>
    x_haste_L33 v3 (fun (v7 : Int32) (M7 : PM) =>
    if v7 ≤ 12 then (lt (M7.si 20 67 0) fun M8 =>
    bd (x_doneIn v7 v3 M8) fun v8 M9 =>
    bd (x_tells (Int32.toInt64 v8) M9) fun _ M10 =>
    some (v7, M10))
    else (some ((-2), M7))) FU 0 M3)

set_option maxHeartbeats 4000000 in
theorem t_x_haste (G : JG) (p1 : Int32) (M : PM) : T_x_haste G  M 0 (ent [.ref 20, .int p1] 4) [] (x_haste p1 M) := by
  unfold x_haste
  refine J_aload_n (pc := 0) dX1_haste_0 rfl ?_
  refine J_iload_n (pc := 1) dX1_haste_1 rfl ?_
  refine J_callV (pc := 2) (n := 1) (b := 20) (vs := [.int p1]) (ci := 0) (fun l => C_x_isTraveller l p1 M) (lw_V q720 q722 qs22 q116 q723) nmv_X1_isTraveller rfl (by omega) (by decide) rfl (fun h => sh_k1 h 0 rfl) rfl (Nat.le_of_ble_eq_true rfl) dX1_haste_2 (fun v1 M1 => ?_)
  refine J_if_ne (pc := 5) 10 dX1_haste_5 rfl (fun h => if_neg h) (fun h => if_pos h) (fun _ => ?_) (fun _ => ?_)
  · refine J_aload_n (pc := 10) dX1_haste_10 rfl ?_
    refine J_iload_n (pc := 11) dX1_haste_11 rfl ?_
    refine J_bipush (pc := 12) 12 dX1_haste_12 (by decide) ?_
    refine J_callV (pc := 14) (n := 2) (b := 20) (vs := [.int p1, .int 12]) (ci := 0) (fun l => C_x_laysTrip l p1 12 M1) (lw_V q885 q887 qs43 q116 q888) nmv_X1_laysTrip rfl (by omega) (by decide) rfl (fun h => sh_k1 h 0 rfl) rfl (Nat.le_of_ble_eq_true rfl) dX1_haste_14 (fun _ M2 => ?_)
    refine J_aload_n (pc := 17) dX1_haste_17 rfl ?_
    refine J_get (pc := 18) (c := 0) (.ref 21) rfl in_X1 0 (by decide) q177 rfl (fun h => sh_k1 h 0 rfl) (fun h _ => fv_ref (Or.inl ⟨_, rfl⟩) (sh_r h 4 rfl)) dX1_haste_18 ?_
    refine J_getN (host := "TollOnVowels") (pc := 21) (c := 1) (.int (M2.i 21 5)) rfl in_X2 5 (by decide) (by decide +kernel) rfl (fun h => sh_k1 h 1 rfl) (fun _ _ => rfl) dX1_haste_21 ?_
    refine J_aload_n (pc := 24) dX1_haste_24 rfl ?_
    refine J_iload_n (pc := 25) dX1_haste_25 rfl ?_
    refine J_callV (pc := 26) (n := 1) (b := 20) (vs := [.int p1]) (ci := 0) (fun l => C_x_errandsOf l p1 M2) (lw_V q791 q793 qs32 q116 q794) nmv_X1_errandsOf rfl (by omega) (by decide) rfl (fun h => sh_k1 h 0 rfl) rfl (Nat.le_of_ble_eq_true rfl) dX1_haste_26 (fun v2 M3 => ?_)
    refine J_ior (pc := 29) dX1_haste_29 ?_
    refine J_lt (β := Int32) (v := ((M2.i 21 5) ||| v2)) (L := fun _ => _) (S := fun v3 => [.int v3]) (fun v3 => ?_)
    refine J_istore_n (pc := 30) dX1_haste_30 (by decide) ?_
    refine J_iconst (pc := 31) 0 dX1_haste_31 (by decide) ?_
    refine J_istore_n (pc := 32) dX1_haste_32 (by decide) ?_
    refine J_sub (A := [some (.ref 20), none, some (.int v3), some (.int 0)]) ⟨rfl, ⟨rfl, ⟨rfl, trivial⟩⟩⟩ (t_x_haste_L33 G v3 _ ?_ FU 0 M3)
    · intro v7 M7
      refine J_iload_n (pc := 57) dX1_haste_57 rfl ?_
      refine J_bipush (pc := 58) 12 dX1_haste_58 (by decide) ?_
      refine J_icmp_le (pc := 60) 66 dX1_haste_60 rfl (fun h => if_pos h) (fun h => if_neg h) (fun _ => ?_) (fun _ => ?_)
      · refine J_aload_n (pc := 66) dX1_haste_66 rfl ?_
        refine J_iconst (pc := 67) 0 dX1_haste_67 (by decide) ?_
        refine J_put (pc := 68) (a := 20) (v := .int 0) (M' := M7.si 20 67 0) (c := 0) rfl in_X1 tyX1_ok fnX1 67 (by decide) q251 rfl (Or.inl rfl) (fun h => sh_k1 h 0 rfl) (fun _ => rfl) (fun _ => rfl) ⟨⟨rfl, rfl⟩, rfl⟩ (fun _ hb => up2_same hb) (fun _ _ => rfl) (fun _ _ => rfl) (put_i (fun _ _ _ => rfl)) (fun h => Sh_si h) dX1_haste_68 ?_
        refine J_ltM (fun M8 => ?_)
        refine J_aload_n (pc := 71) dX1_haste_71 rfl ?_
        refine J_aload_n (pc := 72) dX1_haste_72 rfl ?_
        refine J_iload_n (pc := 73) dX1_haste_73 rfl ?_
        refine J_iload_n (pc := 74) dX1_haste_74 rfl ?_
        refine J_callV (pc := 75) (n := 2) (b := 20) (vs := [.int v7, .int v3]) (ci := 0) (fun l => C_x_doneIn l v7 v3 M8) (lw_V q904 q906 qs47 q116 q907) nmv_X1_doneIn rfl (by omega) (by decide) rfl (fun h => sh_k1 h 0 rfl) rfl (Nat.le_of_ble_eq_true rfl) dX1_haste_75 (fun v8 M9 => ?_)
        refine J_i2l (pc := 78) dX1_haste_78 ?_
        refine J_callV (pc := 79) (n := 1) (b := 20) (vs := [.long (Int32.toInt64 v8)]) (ci := 0) (fun l => C_x_tells l (Int32.toInt64 v8) M9) (lw_V q708 q710 qs20 q116 q711) nmv_X1_tells rfl (by omega) (by decide) rfl (fun h => sh_k1 h 0 rfl) rfl (Nat.le_of_ble_eq_true rfl) dX1_haste_79 (fun _ M10 => ?_)
        refine J_iload_n (pc := 82) dX1_haste_82 rfl ?_
        exact J_iret (pc := 83) dX1_haste_83
      · refine J_bipush (pc := 63) (-2) dX1_haste_63 (by decide) ?_
        exact J_iret (pc := 65) dX1_haste_65
  · refine J_iconst (pc := 8) (-1) dX1_haste_8 (by decide) ?_
    exact J_iret (pc := 9) dX1_haste_9

theorem C_x_haste (l : Launch) (p1 : Int32) (M : PM) : Ctr l Sh yX1_haste cX1_haste 4 (some .int) 144 rvI [.ref 20, .int p1] M (x_haste p1 M) := Ctr.of (by decide +kernel) (Nat.le_of_ble_eq_true rfl) (fun G => t_x_haste G p1 M)

abbrev T_x_costOf (G : JG) (M : PM) (pc : Nat) (L : List (Option Value)) (S : List Value) (o : Option (Int32 × PM)) : Prop := JJ G cX1_costOf yX1_costOf 5 144 (some .int) Sh (finR G Sh rvI) M pc L S o
def x_costOf_L5 (c1 : Int32) (c2 : Int32) : Nat → Int32 → Int32 → PM → Option (Int32 × PM)
  | 0, _, _, _ => none
  | n + 1, v1, v2, M1 =>
    if (M1.i 20 13) ≤ v2 then (some (v1, M1))
    else (bd (x_has c1 v2 M1) fun v3 M2 =>
    jn (fun (v4 : Int32) (M3 : PM) =>
    lt (v1 + v4) fun v5 =>
    lt (v2 + 1) fun v6 =>
    x_costOf_L5 c1 c2 n v5 v6 M3) fun j1 =>
    if v3 = 0 then (j1 0 M2)
    else (ck v2 8 <|
    bd (x_cheapestFor (M2.i 36 (ix v2)) c2 0 M2) fun v7 M4 =>
    bd (x_tollNow v7 c2 M4) fun v8 M5 =>
    j1 v8 M5))

set_option maxHeartbeats 4000000 in
theorem t_x_costOf_L5 (G : JG) (c1 : Int32) (c2 : Int32) : ∀ (n : Nat) (v1 : Int32) (v2 : Int32) (M1 : PM), T_x_costOf G  M1 5 [some (.ref 20), some (.int c1), some (.int c2), some (.int v1), some (.int v2)] [] (x_costOf_L5 c1 c2 n v1 v2 M1) := by
  intro n
  induction n with
  | zero =>
    intro v1 v2 M1
    exact J_none
  | succ n ih =>
    intro v1 v2 M1
    rw [x_costOf_L5]
    refine J_iload (pc := 5) dX1_costOf_5 rfl ?_
    refine J_aload_n (pc := 7) dX1_costOf_7 rfl ?_
    refine J_get (pc := 8) (c := 0) (.int (M1.i 20 13)) rfl in_X1 13 (by decide) q190 rfl (fun h => sh_k1 h 0 rfl) (fun _ _ => rfl) dX1_costOf_8 ?_
    refine J_icmp_ge (pc := 11) 54 dX1_costOf_11 rfl (fun h => if_pos h) (fun h => if_neg h) (fun _ => ?_) (fun _ => ?_)
    · refine J_iload_n (pc := 54) dX1_costOf_54 rfl ?_
      exact J_iret (pc := 55) dX1_costOf_55
    · refine J_iload_n (pc := 14) dX1_costOf_14 rfl ?_
      refine J_iload_n (pc := 15) dX1_costOf_15 rfl ?_
      refine J_iload (pc := 16) dX1_costOf_16 rfl ?_
      refine J_callS (pc := 18) (n := 2) (vs := [.int c1, .int v2]) (fun l => C_x_has l c1 v2 M1) (lw_S q757 q758 q116 q759) nmh_X1_has rfl (by omega) (by decide) rfl (Nat.le_of_ble_eq_true rfl) dX1_costOf_18 (fun v3 M2 => ?_)
      refine J_jn (P := fun J => ∀ (v4 : Int32) (M3 : PM), T_x_costOf G  M3 46 [some (.ref 20), some (.int c1), some (.int c2), none, some (.int v2)] [.int v4, .int v1] (J v4 M3)) (fun v4 M3 => ?_) (fun j1 hj1 => ?_)
      · refine J_iadd (pc := 46) dX1_costOf_46 ?_
        refine J_lt (β := Int32) (v := (v1 + v4)) (L := fun _ => _) (S := fun v5 => [.int v5]) (fun v5 => ?_)
        refine J_istore_n (pc := 47) dX1_costOf_47 (by decide) ?_
        refine J_iincL (pc := 48) (n := 1) (by decide) dX1_costOf_48 rfl (by decide) (fun v6 => ?_)
        refine J_goto (pc := 51) 5 dX1_costOf_51 rfl ?_
        exact J_sub (A := [some (.ref 20), some (.int c1), some (.int c2), some (.int v5), some (.int v6)]) ⟨rfl, ⟨rfl, ⟨rfl, ⟨rfl, ⟨rfl, trivial⟩⟩⟩⟩⟩ (ih v5 v6 M3)
      refine J_if_eq (pc := 21) 45 dX1_costOf_21 rfl (fun h => if_pos h) (fun h => if_neg h) (fun _ => ?_) (fun _ => ?_)
      · refine J_iconst (pc := 45) 0 dX1_costOf_45 (by decide) ?_
        exact J_sub (A := [some (.ref 20), some (.int c1), some (.int c2), none, some (.int v2)]) ⟨rfl, ⟨rfl, ⟨rfl, ⟨rfl, trivial⟩⟩⟩⟩ (hj1 0 M2)
      · refine J_aload_n (pc := 24) dX1_costOf_24 rfl ?_
        refine J_aload_n (pc := 25) dX1_costOf_25 rfl ?_
        refine J_aload_n (pc := 26) dX1_costOf_26 rfl ?_
        refine J_get (pc := 27) (c := 0) (.ref 36) rfl in_X1 7 (by decide) q184 rfl (fun h => sh_k1 h 0 rfl) (fun h _ => fv_ref (Or.inr ⟨_, rfl⟩) (sh_r h 15 rfl)) dX1_costOf_27 ?_
        refine J_iload (pc := 30) dX1_costOf_30 rfl ?_
        refine J_ck (fun h1 => ?_)
        refine J_iald (pc := 32) (a := 36) (fun h => sh_a h 16 rfl h1) dX1_costOf_32 ?_
        refine J_iload_n (pc := 33) dX1_costOf_33 rfl ?_
        refine J_iconst (pc := 34) 0 dX1_costOf_34 (by decide) ?_
        refine J_callV (pc := 35) (n := 3) (b := 20) (vs := [.int (M2.i 36 (ix v2)), .int c2, .int 0]) (ci := 0) (fun l => C_x_cheapestFor l (M2.i 36 (ix v2)) c2 0 M2) (lw_V q795 q797 qs33 q116 q798) nmv_X1_cheapestFor rfl (by omega) (by decide) rfl (fun h => sh_k1 h 0 rfl) rfl (Nat.le_of_ble_eq_true rfl) dX1_costOf_35 (fun v7 M4 => ?_)
        refine J_iload_n (pc := 38) dX1_costOf_38 rfl ?_
        refine J_callV (pc := 39) (n := 2) (b := 20) (vs := [.int v7, .int c2]) (ci := 0) (fun l => C_x_tollNow l v7 c2 M4) (lw_V q800 q802 qs34 q116 q803) nmv_X1_tollNow rfl (by omega) (by decide) rfl (fun h => sh_k1 h 0 rfl) rfl (Nat.le_of_ble_eq_true rfl) dX1_costOf_39 (fun v8 M5 => ?_)
        refine J_goto (pc := 42) 46 dX1_costOf_42 rfl ?_
        exact J_sub (A := [some (.ref 20), some (.int c1), some (.int c2), none, some (.int v2)]) ⟨rfl, ⟨rfl, ⟨rfl, ⟨rfl, trivial⟩⟩⟩⟩ (hj1 v8 M5)

def x_costOf (p1 : Int32) (p2 : Int32) (M : PM) : Option (Int32 × PM) :=
    x_costOf_L5 p1 p2 FU 0 0 M

set_option maxHeartbeats 4000000 in
theorem t_x_costOf (G : JG) (p1 : Int32) (p2 : Int32) (M : PM) : T_x_costOf G  M 0 (ent [.ref 20, .int p1, .int p2] 5) [] (x_costOf p1 p2 M) := by
  unfold x_costOf
  refine J_iconst (pc := 0) 0 dX1_costOf_0 (by decide) ?_
  refine J_istore_n (pc := 1) dX1_costOf_1 (by decide) ?_
  refine J_iconst (pc := 2) 0 dX1_costOf_2 (by decide) ?_
  refine J_istore (pc := 3) dX1_costOf_3 (by decide) ?_
  refine J_sub (A := [some (.ref 20), some (.int p1), some (.int p2), some (.int 0), some (.int 0)]) ⟨rfl, ⟨rfl, ⟨rfl, ⟨rfl, ⟨rfl, trivial⟩⟩⟩⟩⟩ (t_x_costOf_L5 G p1 p2  FU 0 0 M)

theorem C_x_costOf (l : Launch) (p1 : Int32) (p2 : Int32) (M : PM) : Ctr l Sh yX1_costOf cX1_costOf 5 (some .int) 144 rvI [.ref 20, .int p1, .int p2] M (x_costOf p1 p2 M) := Ctr.of (by decide +kernel) (Nat.le_of_ble_eq_true rfl) (fun G => t_x_costOf G p1 p2 M)

abbrev T_x_worthOf (G : JG) (M : PM) (pc : Nat) (L : List (Option Value)) (S : List Value) (o : Option (Int32 × PM)) : Prop := JJ G cX1_worthOf yX1_worthOf 4 2 (some .int) Sh (finR G Sh rvI) M pc L S o
def x_worthOf_L4 (c1 : Int32) : Nat → Int32 → Int32 → PM → Option (Int32 × PM)
  | 0, _, _, _ => none
  | n + 1, v1, v2, M1 =>
    if (M1.i 20 13) ≤ v2 then (some (v1, M1))
    else (bd (x_has c1 v2 M1) fun v3 M2 =>
    jn (fun (v4 : Int32) (M3 : PM) =>
    lt (v1 + v4) fun v5 =>
    lt (v2 + 1) fun v6 =>
    x_worthOf_L4 c1 n v5 v6 M3) fun j1 =>
    if v3 = 0 then (j1 0 M2)
    else (ck v2 8 <|
    j1 (M2.i 38 (ix v2)) M2))

set_option maxHeartbeats 4000000 in
theorem t_x_worthOf_L4 (G : JG) (c1 : Int32) : ∀ (n : Nat) (v1 : Int32) (v2 : Int32) (M1 : PM), T_x_worthOf G  M1 4 [some (.ref 20), some (.int c1), some (.int v1), some (.int v2)] [] (x_worthOf_L4 c1 n v1 v2 M1) := by
  intro n
  induction n with
  | zero =>
    intro v1 v2 M1
    exact J_none
  | succ n ih =>
    intro v1 v2 M1
    rw [x_worthOf_L4]
    refine J_iload_n (pc := 4) dX1_worthOf_4 rfl ?_
    refine J_aload_n (pc := 5) dX1_worthOf_5 rfl ?_
    refine J_get (pc := 6) (c := 0) (.int (M1.i 20 13)) rfl in_X1 13 (by decide) q190 rfl (fun h => sh_k1 h 0 rfl) (fun _ _ => rfl) dX1_worthOf_6 ?_
    refine J_icmp_ge (pc := 9) 39 dX1_worthOf_9 rfl (fun h => if_pos h) (fun h => if_neg h) (fun _ => ?_) (fun _ => ?_)
    · refine J_iload_n (pc := 39) dX1_worthOf_39 rfl ?_
      exact J_iret (pc := 40) dX1_worthOf_40
    · refine J_iload_n (pc := 12) dX1_worthOf_12 rfl ?_
      refine J_iload_n (pc := 13) dX1_worthOf_13 rfl ?_
      refine J_iload_n (pc := 14) dX1_worthOf_14 rfl ?_
      refine J_callS (pc := 15) (n := 2) (vs := [.int c1, .int v2]) (fun l => C_x_has l c1 v2 M1) (lw_S q757 q758 q116 q759) nmh_X1_has rfl (by omega) (by decide) rfl (Nat.le_of_ble_eq_true rfl) dX1_worthOf_15 (fun v3 M2 => ?_)
      refine J_jn (P := fun J => ∀ (v4 : Int32) (M3 : PM), T_x_worthOf G  M3 31 [some (.ref 20), some (.int c1), none, some (.int v2)] [.int v4, .int v1] (J v4 M3)) (fun v4 M3 => ?_) (fun j1 hj1 => ?_)
      · refine J_iadd (pc := 31) dX1_worthOf_31 ?_
        refine J_lt (β := Int32) (v := (v1 + v4)) (L := fun _ => _) (S := fun v5 => [.int v5]) (fun v5 => ?_)
        refine J_istore_n (pc := 32) dX1_worthOf_32 (by decide) ?_
        refine J_iincL (pc := 33) (n := 1) (by decide) dX1_worthOf_33 rfl (by decide) (fun v6 => ?_)
        refine J_goto (pc := 36) 4 dX1_worthOf_36 rfl ?_
        exact J_sub (A := [some (.ref 20), some (.int c1), some (.int v5), some (.int v6)]) ⟨rfl, ⟨rfl, ⟨rfl, ⟨rfl, trivial⟩⟩⟩⟩ (ih v5 v6 M3)
      refine J_if_eq (pc := 18) 30 dX1_worthOf_18 rfl (fun h => if_pos h) (fun h => if_neg h) (fun _ => ?_) (fun _ => ?_)
      · refine J_iconst (pc := 30) 0 dX1_worthOf_30 (by decide) ?_
        exact J_sub (A := [some (.ref 20), some (.int c1), none, some (.int v2)]) ⟨rfl, ⟨rfl, ⟨rfl, trivial⟩⟩⟩ (hj1 0 M2)
      · refine J_aload_n (pc := 21) dX1_worthOf_21 rfl ?_
        refine J_get (pc := 22) (c := 0) (.ref 38) rfl in_X1 9 (by decide) q186 rfl (fun h => sh_k1 h 0 rfl) (fun h _ => fv_ref (Or.inr ⟨_, rfl⟩) (sh_r h 17 rfl)) dX1_worthOf_22 ?_
        refine J_iload_n (pc := 25) dX1_worthOf_25 rfl ?_
        refine J_ck (fun h1 => ?_)
        refine J_iald (pc := 26) (a := 38) (fun h => sh_a h 18 rfl h1) dX1_worthOf_26 ?_
        refine J_goto (pc := 27) 31 dX1_worthOf_27 rfl ?_
        exact J_sub (A := [some (.ref 20), some (.int c1), none, some (.int v2)]) ⟨rfl, ⟨rfl, ⟨rfl, trivial⟩⟩⟩ (hj1 (M2.i 38 (ix v2)) M2)

def x_worthOf (p1 : Int32) (M : PM) : Option (Int32 × PM) :=
    x_worthOf_L4 p1 FU 0 0 M

set_option maxHeartbeats 4000000 in
theorem t_x_worthOf (G : JG) (p1 : Int32) (M : PM) : T_x_worthOf G  M 0 (ent [.ref 20, .int p1] 4) [] (x_worthOf p1 M) := by
  unfold x_worthOf
  refine J_iconst (pc := 0) 0 dX1_worthOf_0 (by decide) ?_
  refine J_istore_n (pc := 1) dX1_worthOf_1 (by decide) ?_
  refine J_iconst (pc := 2) 0 dX1_worthOf_2 (by decide) ?_
  refine J_istore_n (pc := 3) dX1_worthOf_3 (by decide) ?_
  refine J_sub (A := [some (.ref 20), some (.int p1), some (.int 0), some (.int 0)]) ⟨rfl, ⟨rfl, ⟨rfl, ⟨rfl, trivial⟩⟩⟩⟩ (t_x_worthOf_L4 G p1  FU 0 0 M)

theorem C_x_worthOf (l : Launch) (p1 : Int32) (M : PM) : Ctr l Sh yX1_worthOf cX1_worthOf 4 (some .int) 2 rvI [.ref 20, .int p1] M (x_worthOf p1 M) := Ctr.of (by decide +kernel) (Nat.le_of_ble_eq_true rfl) (fun G => t_x_worthOf G p1 M)

abbrev T_x_best (G : JG) (M : PM) (pc : Nat) (L : List (Option Value)) (S : List Value) (o : Option (Int32 × PM)) : Prop := JJ G cX1_best yX1_best 7 145 (some .int) Sh (finR G Sh rvI) M pc L S o
def x_best_L29 (c1 : Int32) (c2 : Int32) (k84 : Int32 → PM → Option (Int32 × PM)) : Nat → Int32 → Int32 → PM → Option (Int32 × PM)
  | 0, _, _, _ => none
  | n + 1, v4, v5, M3 =>
    if (M3.i 20 13) ≤ v5 then (k84 v4 M3)
    else (ck v5 8 <|
    jn (fun (v6 : Int32) (M4 : PM) =>
    lt (v4 &&& v6) fun v7 =>
    lt (v5 + 1) fun v8 =>
    x_best_L29 c1 c2 k84 n v7 v8 M4) fun j1 =>
    jn (fun (M5 : PM) =>
    j1 ((1 <<< (v5 &&& 31)) ^^^ (-1)) M5) fun j2 =>
    if (M3.i 37 (ix v5)) = c2 then (ck v5 8 <|
    bd (x_cheapestFor (M3.i 36 (ix v5)) c2 0 M3) fun v9 M6 =>
    if v9 < 0 then (j2 M6)
    else (j1 (-1) M6))
    else (j2 M3))

set_option maxHeartbeats 4000000 in
theorem t_x_best_L29 (G : JG) (c1 : Int32) (c2 : Int32) (k84 : Int32 → PM → Option (Int32 × PM)) (hk84 : ∀ z3 Me, T_x_best G  Me 84 [some (.ref 20), some (.int c1), some (.int c2), some (.int z3), none, none, none] [] (k84 z3 Me)) : ∀ (n : Nat) (v4 : Int32) (v5 : Int32) (M3 : PM), T_x_best G  M3 29 [some (.ref 20), some (.int c1), some (.int c2), some (.int v4), some (.int v5), none, none] [] (x_best_L29 c1 c2 k84 n v4 v5 M3) := by
  intro n
  induction n with
  | zero =>
    intro v4 v5 M3
    exact J_none
  | succ n ih =>
    intro v4 v5 M3
    rw [x_best_L29]
    refine J_iload (pc := 29) dX1_best_29 rfl ?_
    refine J_aload_n (pc := 31) dX1_best_31 rfl ?_
    refine J_get (pc := 32) (c := 0) (.int (M3.i 20 13)) rfl in_X1 13 (by decide) q190 rfl (fun h => sh_k1 h 0 rfl) (fun _ _ => rfl) dX1_best_32 ?_
    refine J_icmp_ge (pc := 35) 84 dX1_best_35 rfl (fun h => if_pos h) (fun h => if_neg h) (fun _ => ?_) (fun _ => ?_)
    · exact J_sub (A := [some (.ref 20), some (.int c1), some (.int c2), some (.int v4), none, none, none]) ⟨rfl, ⟨rfl, ⟨rfl, ⟨rfl, trivial⟩⟩⟩⟩ (hk84 v4 M3)
    · refine J_iload_n (pc := 38) dX1_best_38 rfl ?_
      refine J_aload_n (pc := 39) dX1_best_39 rfl ?_
      refine J_get (pc := 40) (c := 0) (.ref 37) rfl in_X1 8 (by decide) q185 rfl (fun h => sh_k1 h 0 rfl) (fun h _ => fv_ref (Or.inr ⟨_, rfl⟩) (sh_r h 16 rfl)) dX1_best_40 ?_
      refine J_iload (pc := 43) dX1_best_43 rfl ?_
      refine J_ck (fun h2 => ?_)
      refine J_iald (pc := 45) (a := 37) (fun h => sh_a h 17 rfl h2) dX1_best_45 ?_
      refine J_iload_n (pc := 46) dX1_best_46 rfl ?_
      refine J_jn (P := fun J => ∀ (v6 : Int32) (M4 : PM), T_x_best G  M4 76 [some (.ref 20), some (.int c1), some (.int c2), none, some (.int v5), none, none] [.int v6, .int v4] (J v6 M4)) (fun v6 M4 => ?_) (fun j1 hj1 => ?_)
      · refine J_iand (pc := 76) dX1_best_76 ?_
        refine J_lt (β := Int32) (v := (v4 &&& v6)) (L := fun _ => _) (S := fun v7 => [.int v7]) (fun v7 => ?_)
        refine J_istore_n (pc := 77) dX1_best_77 (by decide) ?_
        refine J_iincL (pc := 78) (n := 1) (by decide) dX1_best_78 rfl (by decide) (fun v8 => ?_)
        refine J_goto (pc := 81) 29 dX1_best_81 rfl ?_
        exact J_sub (A := [some (.ref 20), some (.int c1), some (.int c2), some (.int v7), some (.int v8), none, none]) ⟨rfl, ⟨rfl, ⟨rfl, ⟨rfl, ⟨rfl, trivial⟩⟩⟩⟩⟩ (ih v7 v8 M4)
      refine J_jn (P := fun J => ∀ (M5 : PM), T_x_best G  M5 70 [some (.ref 20), some (.int c1), some (.int c2), none, some (.int v5), none, none] [.int v4] (J M5)) (fun M5 => ?_) (fun j2 hj2 => ?_)
      · refine J_iconst (pc := 70) 1 dX1_best_70 (by decide) ?_
        refine J_iload (pc := 71) dX1_best_71 rfl ?_
        refine J_ishl (pc := 73) dX1_best_73 ?_
        refine J_iconst (pc := 74) (-1) dX1_best_74 (by decide) ?_
        refine J_ixor (pc := 75) dX1_best_75 ?_
        exact J_sub (A := [some (.ref 20), some (.int c1), some (.int c2), none, some (.int v5), none, none]) ⟨rfl, ⟨rfl, ⟨rfl, ⟨rfl, trivial⟩⟩⟩⟩ (hj1 ((1 <<< (v5 &&& 31)) ^^^ (-1)) M5)
      refine J_icmp_ne (pc := 47) 70 dX1_best_47 rfl (fun h => if_neg h) (fun h => if_pos h) (fun _ => ?_) (fun _ => ?_)
      · exact J_sub (A := [some (.ref 20), some (.int c1), some (.int c2), none, some (.int v5), none, none]) ⟨rfl, ⟨rfl, ⟨rfl, ⟨rfl, trivial⟩⟩⟩⟩ (hj2 M3)
      · refine J_aload_n (pc := 50) dX1_best_50 rfl ?_
        refine J_aload_n (pc := 51) dX1_best_51 rfl ?_
        refine J_get (pc := 52) (c := 0) (.ref 36) rfl in_X1 7 (by decide) q184 rfl (fun h => sh_k1 h 0 rfl) (fun h _ => fv_ref (Or.inr ⟨_, rfl⟩) (sh_r h 15 rfl)) dX1_best_52 ?_
        refine J_iload (pc := 55) dX1_best_55 rfl ?_
        refine J_ck (fun h3 => ?_)
        refine J_iald (pc := 57) (a := 36) (fun h => sh_a h 16 rfl h3) dX1_best_57 ?_
        refine J_iload_n (pc := 58) dX1_best_58 rfl ?_
        refine J_iconst (pc := 59) 0 dX1_best_59 (by decide) ?_
        refine J_callV (pc := 60) (n := 3) (b := 20) (vs := [.int (M3.i 36 (ix v5)), .int c2, .int 0]) (ci := 0) (fun l => C_x_cheapestFor l (M3.i 36 (ix v5)) c2 0 M3) (lw_V q795 q797 qs33 q116 q798) nmv_X1_cheapestFor rfl (by omega) (by decide) rfl (fun h => sh_k1 h 0 rfl) rfl (Nat.le_of_ble_eq_true rfl) dX1_best_60 (fun v9 M6 => ?_)
        refine J_if_lt (pc := 63) 70 dX1_best_63 rfl (fun h => if_pos h) (fun h => if_neg h) (fun _ => ?_) (fun _ => ?_)
        · exact J_sub (A := [some (.ref 20), some (.int c1), some (.int c2), none, some (.int v5), none, none]) ⟨rfl, ⟨rfl, ⟨rfl, ⟨rfl, trivial⟩⟩⟩⟩ (hj2 M6)
        · refine J_iconst (pc := 66) (-1) dX1_best_66 (by decide) ?_
          refine J_goto (pc := 67) 76 dX1_best_67 rfl ?_
          exact J_sub (A := [some (.ref 20), some (.int c1), some (.int c2), none, some (.int v5), none, none]) ⟨rfl, ⟨rfl, ⟨rfl, ⟨rfl, trivial⟩⟩⟩⟩ (hj1 (-1) M6)

def x_best_L90 (c1 : Int32) (c2 : Int32) (c3 : Int32) (k184 : Int32 → PM → Option (Int32 × PM)) : Nat → Int32 → Int32 → PM → Option (Int32 × PM)
  | 0, _, _, _ => none
  | n + 1, v11, v12, M8 =>
    if c3 < v12 then (k184 v11 M8)
    else (jn (fun (v13 : Int32) (M9 : PM) =>
    lt (v12 + 1) fun v14 =>
    x_best_L90 c1 c2 c3 k184 n v13 v14 M9) fun j3 =>
    if (v12 &&& (c3 ^^^ (-1))) = 0 then (bd (x_costOf v12 c2 M8) fun v15 M10 =>
    ck c1 4 <|
    if v15 ≤ (M10.i 23 (ix c1)) then (bd (x_worthOf v12 M10) fun v16 M11 =>
    bd (x_worthOf v11 M11) fun v17 M12 =>
    lt (v16 - v17) fun v18 =>
    jn (fun (v19 : Int32) (M13 : PM) =>
    j3 v19 M13) fun j4 =>
    if 0 < v18 then (j4 v12 M12)
    else (if v18 = 0 then (bd (x_costOf v12 c2 M12) fun v20 M14 =>
    bd (x_costOf v11 c2 M14) fun v21 M15 =>
    if v21 ≤ v20 then (j4 v11 M15)
    else (j4 v12 M15))
    else (j4 v11 M12)))
    else (j3 v11 M10))
    else (j3 v11 M8))

set_option maxHeartbeats 4000000 in
theorem t_x_best_L90 (G : JG) (c1 : Int32) (c2 : Int32) (c3 : Int32) (k184 : Int32 → PM → Option (Int32 × PM)) (hk184 : ∀ z4 Me, T_x_best G  Me 184 [some (.ref 20), none, some (.int c2), none, some (.int z4), none, none] [] (k184 z4 Me)) : ∀ (n : Nat) (v11 : Int32) (v12 : Int32) (M8 : PM), T_x_best G  M8 90 [some (.ref 20), some (.int c1), some (.int c2), some (.int c3), some (.int v11), some (.int v12), none] [] (x_best_L90 c1 c2 c3 k184 n v11 v12 M8) := by
  intro n
  induction n with
  | zero =>
    intro v11 v12 M8
    exact J_none
  | succ n ih =>
    intro v11 v12 M8
    rw [x_best_L90]
    refine J_iload (pc := 90) dX1_best_90 rfl ?_
    refine J_iload_n (pc := 92) dX1_best_92 rfl ?_
    refine J_icmp_gt (pc := 93) 184 dX1_best_93 rfl (fun h => if_pos h) (fun h => if_neg h) (fun _ => ?_) (fun _ => ?_)
    · exact J_sub (A := [some (.ref 20), none, some (.int c2), none, some (.int v11), none, none]) ⟨rfl, ⟨rfl, ⟨rfl, trivial⟩⟩⟩ (hk184 v11 M8)
    · refine J_iload (pc := 96) dX1_best_96 rfl ?_
      refine J_iload_n (pc := 98) dX1_best_98 rfl ?_
      refine J_iconst (pc := 99) (-1) dX1_best_99 (by decide) ?_
      refine J_ixor (pc := 100) dX1_best_100 ?_
      refine J_iand (pc := 101) dX1_best_101 ?_
      refine J_jn (P := fun J => ∀ (v13 : Int32) (M9 : PM), T_x_best G  M9 178 [some (.ref 20), some (.int c1), some (.int c2), some (.int c3), some (.int v13), some (.int v12), none] [] (J v13 M9)) (fun v13 M9 => ?_) (fun j3 hj3 => ?_)
      · refine J_iincL (pc := 178) (n := 1) (by decide) dX1_best_178 rfl (by decide) (fun v14 => ?_)
        refine J_goto (pc := 181) 90 dX1_best_181 rfl ?_
        exact J_sub (A := [some (.ref 20), some (.int c1), some (.int c2), some (.int c3), some (.int v13), some (.int v14), none]) ⟨rfl, ⟨rfl, ⟨rfl, ⟨rfl, ⟨rfl, ⟨rfl, trivial⟩⟩⟩⟩⟩⟩ (ih v13 v14 M9)
      refine J_if_ne (pc := 102) 178 dX1_best_102 rfl (fun h => if_neg h) (fun h => if_pos h) (fun _ => ?_) (fun _ => ?_)
      · exact J_sub (A := [some (.ref 20), some (.int c1), some (.int c2), some (.int c3), some (.int v11), some (.int v12), none]) ⟨rfl, ⟨rfl, ⟨rfl, ⟨rfl, ⟨rfl, ⟨rfl, trivial⟩⟩⟩⟩⟩⟩ (hj3 v11 M8)
      · refine J_aload_n (pc := 105) dX1_best_105 rfl ?_
        refine J_iload (pc := 106) dX1_best_106 rfl ?_
        refine J_iload_n (pc := 108) dX1_best_108 rfl ?_
        refine J_callV (pc := 109) (n := 2) (b := 20) (vs := [.int v12, .int c2]) (ci := 0) (fun l => C_x_costOf l v12 c2 M8) (lw_V q916 q918 qs48 q116 q919) nmv_X1_costOf rfl (by omega) (by decide) rfl (fun h => sh_k1 h 0 rfl) rfl (Nat.le_of_ble_eq_true rfl) dX1_best_109 (fun v15 M10 => ?_)
        refine J_aload_n (pc := 112) dX1_best_112 rfl ?_
        refine J_get (pc := 113) (c := 0) (.ref 21) rfl in_X1 0 (by decide) q177 rfl (fun h => sh_k1 h 0 rfl) (fun h _ => fv_ref (Or.inl ⟨_, rfl⟩) (sh_r h 4 rfl)) dX1_best_113 ?_
        refine J_getN (host := "TollOnVowels") (pc := 116) (c := 1) (.ref 23) rfl in_X2 1 (by decide) (by decide +kernel) rfl (fun h => sh_k1 h 1 rfl) (fun h _ => fv_ref (Or.inr ⟨_, rfl⟩) (sh_r h 1 rfl)) dX1_best_116 ?_
        refine J_iload_n (pc := 119) dX1_best_119 rfl ?_
        refine J_ck (fun h4 => ?_)
        refine J_iald (pc := 120) (a := 23) (fun h => sh_a h 3 rfl h4) dX1_best_120 ?_
        refine J_icmp_le (pc := 121) 127 dX1_best_121 rfl (fun h => if_pos h) (fun h => if_neg h) (fun _ => ?_) (fun _ => ?_)
        · refine J_aload_n (pc := 127) dX1_best_127 rfl ?_
          refine J_iload (pc := 128) dX1_best_128 rfl ?_
          refine J_callV (pc := 130) (n := 1) (b := 20) (vs := [.int v12]) (ci := 0) (fun l => C_x_worthOf l v12 M10) (lw_V q920 q922 qs49 q116 q923) nmv_X1_worthOf rfl (by omega) (by decide) rfl (fun h => sh_k1 h 0 rfl) rfl (Nat.le_of_ble_eq_true rfl) dX1_best_130 (fun v16 M11 => ?_)
          refine J_aload_n (pc := 133) dX1_best_133 rfl ?_
          refine J_iload (pc := 134) dX1_best_134 rfl ?_
          refine J_callV (pc := 136) (n := 1) (b := 20) (vs := [.int v11]) (ci := 0) (fun l => C_x_worthOf l v11 M11) (lw_V q920 q922 qs49 q116 q923) nmv_X1_worthOf rfl (by omega) (by decide) rfl (fun h => sh_k1 h 0 rfl) rfl (Nat.le_of_ble_eq_true rfl) dX1_best_136 (fun v17 M12 => ?_)
          refine J_isub (pc := 139) dX1_best_139 ?_
          refine J_lt (β := Int32) (v := (v16 - v17)) (L := fun _ => _) (S := fun v18 => [.int v18]) (fun v18 => ?_)
          refine J_istore (pc := 140) dX1_best_140 (by decide) ?_
          refine J_iload (pc := 142) dX1_best_142 rfl ?_
          refine J_jn (P := fun J => ∀ (v19 : Int32) (M13 : PM), T_x_best G  M13 176 [some (.ref 20), some (.int c1), some (.int c2), some (.int c3), none, some (.int v12), none] [.int v19] (J v19 M13)) (fun v19 M13 => ?_) (fun j4 hj4 => ?_)
          · refine J_istore (pc := 176) dX1_best_176 (by decide) ?_
            exact J_sub (A := [some (.ref 20), some (.int c1), some (.int c2), some (.int c3), some (.int v19), some (.int v12), none]) ⟨rfl, ⟨rfl, ⟨rfl, ⟨rfl, ⟨rfl, ⟨rfl, trivial⟩⟩⟩⟩⟩⟩ (hj3 v19 M13)
          refine J_if_gt (pc := 144) 169 dX1_best_144 rfl (fun h => if_pos h) (fun h => if_neg h) (fun _ => ?_) (fun _ => ?_)
          · refine J_iload (pc := 169) dX1_best_169 rfl ?_
            refine J_goto (pc := 171) 176 dX1_best_171 rfl ?_
            exact J_sub (A := [some (.ref 20), some (.int c1), some (.int c2), some (.int c3), none, some (.int v12), none]) ⟨rfl, ⟨rfl, ⟨rfl, ⟨rfl, ⟨rfl, trivial⟩⟩⟩⟩⟩ (hj4 v12 M12)
          · refine J_iload (pc := 147) dX1_best_147 rfl ?_
            refine J_if_ne (pc := 149) 174 dX1_best_149 rfl (fun h => if_neg h) (fun h => if_pos h) (fun _ => ?_) (fun _ => ?_)
            · refine J_iload (pc := 174) dX1_best_174 rfl ?_
              exact J_sub (A := [some (.ref 20), some (.int c1), some (.int c2), some (.int c3), none, some (.int v12), none]) ⟨rfl, ⟨rfl, ⟨rfl, ⟨rfl, ⟨rfl, trivial⟩⟩⟩⟩⟩ (hj4 v11 M12)
            · refine J_aload_n (pc := 152) dX1_best_152 rfl ?_
              refine J_iload (pc := 153) dX1_best_153 rfl ?_
              refine J_iload_n (pc := 155) dX1_best_155 rfl ?_
              refine J_callV (pc := 156) (n := 2) (b := 20) (vs := [.int v12, .int c2]) (ci := 0) (fun l => C_x_costOf l v12 c2 M12) (lw_V q916 q918 qs48 q116 q919) nmv_X1_costOf rfl (by omega) (by decide) rfl (fun h => sh_k1 h 0 rfl) rfl (Nat.le_of_ble_eq_true rfl) dX1_best_156 (fun v20 M14 => ?_)
              refine J_aload_n (pc := 159) dX1_best_159 rfl ?_
              refine J_iload (pc := 160) dX1_best_160 rfl ?_
              refine J_iload_n (pc := 162) dX1_best_162 rfl ?_
              refine J_callV (pc := 163) (n := 2) (b := 20) (vs := [.int v11, .int c2]) (ci := 0) (fun l => C_x_costOf l v11 c2 M14) (lw_V q916 q918 qs48 q116 q919) nmv_X1_costOf rfl (by omega) (by decide) rfl (fun h => sh_k1 h 0 rfl) rfl (Nat.le_of_ble_eq_true rfl) dX1_best_163 (fun v21 M15 => ?_)
              refine J_icmp_ge (pc := 166) 174 dX1_best_166 rfl (fun h => if_pos h) (fun h => if_neg h) (fun _ => ?_) (fun _ => ?_)
              · refine J_iload (pc := 174) dX1_best_174 rfl ?_
                exact J_sub (A := [some (.ref 20), some (.int c1), some (.int c2), some (.int c3), none, some (.int v12), none]) ⟨rfl, ⟨rfl, ⟨rfl, ⟨rfl, ⟨rfl, trivial⟩⟩⟩⟩⟩ (hj4 v11 M15)
              · refine J_iload (pc := 169) dX1_best_169 rfl ?_
                refine J_goto (pc := 171) 176 dX1_best_171 rfl ?_
                exact J_sub (A := [some (.ref 20), some (.int c1), some (.int c2), some (.int c3), none, some (.int v12), none]) ⟨rfl, ⟨rfl, ⟨rfl, ⟨rfl, ⟨rfl, trivial⟩⟩⟩⟩⟩ (hj4 v12 M15)
        · refine J_goto (pc := 124) 178 dX1_best_124 rfl ?_
          exact J_sub (A := [some (.ref 20), some (.int c1), some (.int c2), some (.int c3), some (.int v11), some (.int v12), none]) ⟨rfl, ⟨rfl, ⟨rfl, ⟨rfl, ⟨rfl, ⟨rfl, trivial⟩⟩⟩⟩⟩⟩ (hj3 v11 M10)

def x_best (p1 : Int32) (M : PM) : Option (Int32 × PM) :=
    bd (x_isTraveller p1 M) fun v1 M1 =>
    if v1 = 0 then (some ((-1), M1))
    else (ck p1 4 <|
    lt (M1.i 22 (ix p1)) fun v2 =>
    bd (x_errandsOf p1 M1) fun v3 M2 =>
    x_best_L29 p1 v2 (fun (v10 : Int32) (M7 : PM) =>
    x_best_L90 p1 v2 v10 (fun (v22 : Int32) (M16 : PM) =>
    lt (M16.si 20 67 0) fun M17 =>
    bd (x_tells (Int32.toInt64 v22) M17) fun _ M18 =>
    bd (x_costOf v22 v2 M18) fun v23 M19 =>
    bd (x_tells (Int32.toInt64 v23) M19) fun _ M20 =>
    bd (x_worthOf v22 M20) fun v24 M21 =>
    some (v24, M21)) FU 0 1 M7) FU v3 0 M2)

set_option maxHeartbeats 4000000 in
theorem t_x_best (G : JG) (p1 : Int32) (M : PM) : T_x_best G  M 0 (ent [.ref 20, .int p1] 7) [] (x_best p1 M) := by
  unfold x_best
  refine J_aload_n (pc := 0) dX1_best_0 rfl ?_
  refine J_iload_n (pc := 1) dX1_best_1 rfl ?_
  refine J_callV (pc := 2) (n := 1) (b := 20) (vs := [.int p1]) (ci := 0) (fun l => C_x_isTraveller l p1 M) (lw_V q720 q722 qs22 q116 q723) nmv_X1_isTraveller rfl (by omega) (by decide) rfl (fun h => sh_k1 h 0 rfl) rfl (Nat.le_of_ble_eq_true rfl) dX1_best_2 (fun v1 M1 => ?_)
  refine J_if_ne (pc := 5) 10 dX1_best_5 rfl (fun h => if_neg h) (fun h => if_pos h) (fun _ => ?_) (fun _ => ?_)
  · refine J_aload_n (pc := 10) dX1_best_10 rfl ?_
    refine J_get (pc := 11) (c := 0) (.ref 21) rfl in_X1 0 (by decide) q177 rfl (fun h => sh_k1 h 0 rfl) (fun h _ => fv_ref (Or.inl ⟨_, rfl⟩) (sh_r h 4 rfl)) dX1_best_11 ?_
    refine J_getN (host := "TollOnVowels") (pc := 14) (c := 1) (.ref 22) rfl in_X2 0 (by decide) (by decide +kernel) rfl (fun h => sh_k1 h 1 rfl) (fun h _ => fv_ref (Or.inr ⟨_, rfl⟩) (sh_r h 0 rfl)) dX1_best_14 ?_
    refine J_iload_n (pc := 17) dX1_best_17 rfl ?_
    refine J_ck (fun h1 => ?_)
    refine J_iald (pc := 18) (a := 22) (fun h => sh_a h 2 rfl h1) dX1_best_18 ?_
    refine J_lt (β := Int32) (v := (M1.i 22 (ix p1))) (L := fun _ => _) (S := fun v2 => [.int v2]) (fun v2 => ?_)
    refine J_istore_n (pc := 19) dX1_best_19 (by decide) ?_
    refine J_aload_n (pc := 20) dX1_best_20 rfl ?_
    refine J_iload_n (pc := 21) dX1_best_21 rfl ?_
    refine J_callV (pc := 22) (n := 1) (b := 20) (vs := [.int p1]) (ci := 0) (fun l => C_x_errandsOf l p1 M1) (lw_V q791 q793 qs32 q116 q794) nmv_X1_errandsOf rfl (by omega) (by decide) rfl (fun h => sh_k1 h 0 rfl) rfl (Nat.le_of_ble_eq_true rfl) dX1_best_22 (fun v3 M2 => ?_)
    refine J_istore_n (pc := 25) dX1_best_25 (by decide) ?_
    refine J_iconst (pc := 26) 0 dX1_best_26 (by decide) ?_
    refine J_istore (pc := 27) dX1_best_27 (by decide) ?_
    refine J_sub (A := [some (.ref 20), some (.int p1), some (.int v2), some (.int v3), some (.int 0), none, none]) ⟨rfl, ⟨rfl, ⟨rfl, ⟨rfl, ⟨rfl, trivial⟩⟩⟩⟩⟩ (t_x_best_L29 G p1 v2 _ ?_ FU v3 0 M2)
    · intro v10 M7
      refine J_iconst (pc := 84) 0 dX1_best_84 (by decide) ?_
      refine J_istore (pc := 85) dX1_best_85 (by decide) ?_
      refine J_iconst (pc := 87) 1 dX1_best_87 (by decide) ?_
      refine J_istore (pc := 88) dX1_best_88 (by decide) ?_
      refine J_sub (A := [some (.ref 20), some (.int p1), some (.int v2), some (.int v10), some (.int 0), some (.int 1), none]) ⟨rfl, ⟨rfl, ⟨rfl, ⟨rfl, ⟨rfl, ⟨rfl, trivial⟩⟩⟩⟩⟩⟩ (t_x_best_L90 G p1 v2 v10 _ ?_ FU 0 1 M7)
      · intro v22 M16
        refine J_aload_n (pc := 184) dX1_best_184 rfl ?_
        refine J_iconst (pc := 185) 0 dX1_best_185 (by decide) ?_
        refine J_put (pc := 186) (a := 20) (v := .int 0) (M' := M16.si 20 67 0) (c := 0) rfl in_X1 tyX1_ok fnX1 67 (by decide) q251 rfl (Or.inl rfl) (fun h => sh_k1 h 0 rfl) (fun _ => rfl) (fun _ => rfl) ⟨⟨rfl, rfl⟩, rfl⟩ (fun _ hb => up2_same hb) (fun _ _ => rfl) (fun _ _ => rfl) (put_i (fun _ _ _ => rfl)) (fun h => Sh_si h) dX1_best_186 ?_
        refine J_ltM (fun M17 => ?_)
        refine J_aload_n (pc := 189) dX1_best_189 rfl ?_
        refine J_iload (pc := 190) dX1_best_190 rfl ?_
        refine J_i2l (pc := 192) dX1_best_192 ?_
        refine J_callV (pc := 193) (n := 1) (b := 20) (vs := [.long (Int32.toInt64 v22)]) (ci := 0) (fun l => C_x_tells l (Int32.toInt64 v22) M17) (lw_V q708 q710 qs20 q116 q711) nmv_X1_tells rfl (by omega) (by decide) rfl (fun h => sh_k1 h 0 rfl) rfl (Nat.le_of_ble_eq_true rfl) dX1_best_193 (fun _ M18 => ?_)
        refine J_aload_n (pc := 196) dX1_best_196 rfl ?_
        refine J_aload_n (pc := 197) dX1_best_197 rfl ?_
        refine J_iload (pc := 198) dX1_best_198 rfl ?_
        refine J_iload_n (pc := 200) dX1_best_200 rfl ?_
        refine J_callV (pc := 201) (n := 2) (b := 20) (vs := [.int v22, .int v2]) (ci := 0) (fun l => C_x_costOf l v22 v2 M18) (lw_V q916 q918 qs48 q116 q919) nmv_X1_costOf rfl (by omega) (by decide) rfl (fun h => sh_k1 h 0 rfl) rfl (Nat.le_of_ble_eq_true rfl) dX1_best_201 (fun v23 M19 => ?_)
        refine J_i2l (pc := 204) dX1_best_204 ?_
        refine J_callV (pc := 205) (n := 1) (b := 20) (vs := [.long (Int32.toInt64 v23)]) (ci := 0) (fun l => C_x_tells l (Int32.toInt64 v23) M19) (lw_V q708 q710 qs20 q116 q711) nmv_X1_tells rfl (by omega) (by decide) rfl (fun h => sh_k1 h 0 rfl) rfl (Nat.le_of_ble_eq_true rfl) dX1_best_205 (fun _ M20 => ?_)
        refine J_aload_n (pc := 208) dX1_best_208 rfl ?_
        refine J_iload (pc := 209) dX1_best_209 rfl ?_
        refine J_callV (pc := 211) (n := 1) (b := 20) (vs := [.int v22]) (ci := 0) (fun l => C_x_worthOf l v22 M20) (lw_V q920 q922 qs49 q116 q923) nmv_X1_worthOf rfl (by omega) (by decide) rfl (fun h => sh_k1 h 0 rfl) rfl (Nat.le_of_ble_eq_true rfl) dX1_best_211 (fun v24 M21 => ?_)
        exact J_iret (pc := 214) dX1_best_214
  · refine J_iconst (pc := 8) (-1) dX1_best_8 (by decide) ?_
    exact J_iret (pc := 9) dX1_best_9

theorem C_x_best (l : Launch) (p1 : Int32) (M : PM) : Ctr l Sh yX1_best cX1_best 7 (some .int) 145 rvI [.ref 20, .int p1] M (x_best p1 M) := Ctr.of (by decide +kernel) (Nat.le_of_ble_eq_true rfl) (fun G => t_x_best G p1 M)

