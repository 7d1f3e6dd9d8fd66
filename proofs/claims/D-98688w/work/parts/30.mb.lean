set_option maxRecDepth 100000
abbrev T_m_traveller (G : JG) (M : PM) (pc : Nat) (L : List (Option Value)) (S : List Value) (o : Option (Int32 × PM)) : Prop := JJ G cX3_traveller yX3_traveller 5 3 (some .int) Sh (finR G Sh rvI) M pc L S o
def m_traveller_L59 (c1 : Int32) : Nat → Int32 → Int32 → PM → Option (Int32 × PM)
  | 0, _, _, _ => none
  | n + 1, v4, v5, M6 =>
    if (M6.i 72 7) ≤ v5 then (some (v4, M6))
    else (bd (m_field v5 0 M6) fun v6 M7 =>
    jn (fun (v7 : Int32) (M8 : PM) =>
    lt (v4 + v7) fun v8 =>
    lt (v5 + 1) fun v9 =>
    m_traveller_L59 c1 n v8 v9 M8) fun j2 =>
    if v6 = c1 then (ck 13 44 <|
    bd (m_has (M7.i 73 (ix 13)) v5 M7) fun v10 M9 =>
    if v10 = 0 then (j2 0 M9)
    else (bd (m_field v5 3 M9) fun v11 M10 =>
    j2 v11 M10))
    else (j2 0 M7))

set_option maxHeartbeats 4000000 in
theorem t_m_traveller_L59 (G : JG) (c1 : Int32) : ∀ (n : Nat) (v4 : Int32) (v5 : Int32) (M6 : PM), T_m_traveller G  M6 59 [some (.ref 72), some (.int c1), none, some (.int v4), some (.int v5)] [] (m_traveller_L59 c1 n v4 v5 M6) := by
  intro n
  induction n with
  | zero =>
    intro v4 v5 M6
    exact J_none
  | succ n ih =>
    intro v4 v5 M6
    rw [m_traveller_L59]
    refine J_iload (pc := 59) dX3_traveller_59 rfl ?_
    refine J_aload_n (pc := 61) dX3_traveller_61 rfl ?_
    refine J_get (pc := 62) (c := 2) (.int (M6.i 72 7)) rfl in_X3 7 (by decide) q1114 rfl (fun h => sh_k1 h 52 rfl) (fun _ _ => rfl) dX3_traveller_62 ?_
    refine J_icmp_ge (pc := 65) 114 dX3_traveller_65 rfl (fun h => if_pos h) (fun h => if_neg h) (fun _ => ?_) (fun _ => ?_)
    · refine J_iload_n (pc := 114) dX3_traveller_114 rfl ?_
      exact J_iret (pc := 115) dX3_traveller_115
    · refine J_iload_n (pc := 68) dX3_traveller_68 rfl ?_
      refine J_aload_n (pc := 69) dX3_traveller_69 rfl ?_
      refine J_iload (pc := 70) dX3_traveller_70 rfl ?_
      refine J_iconst (pc := 72) 0 dX3_traveller_72 (by decide) ?_
      refine J_callV (pc := 73) (n := 2) (b := 72) (vs := [.int v5, .int 0]) (ci := 2) (fun l => C_m_field l v5 0 M6) (lw_V q1418 q1420 qs83 q118 q1421) nmv_X3_field rfl (by omega) (by decide) rfl (fun h => sh_k1 h 52 rfl) rfl (Nat.le_of_ble_eq_true rfl) dX3_traveller_73 (fun v6 M7 => ?_)
      refine J_iload_n (pc := 76) dX3_traveller_76 rfl ?_
      refine J_jn (P := fun J => ∀ (v7 : Int32) (M8 : PM), T_m_traveller G  M8 106 [some (.ref 72), some (.int c1), none, none, some (.int v5)] [.int v7, .int v4] (J v7 M8)) (fun v7 M8 => ?_) (fun j2 hj2 => ?_)
      · refine J_iadd (pc := 106) dX3_traveller_106 ?_
        refine J_lt (β := Int32) (v := (v4 + v7)) (L := fun _ => _) (S := fun v8 => [.int v8]) (fun v8 => ?_)
        refine J_istore_n (pc := 107) dX3_traveller_107 (by decide) ?_
        refine J_iincL (pc := 108) (n := 1) (by decide) dX3_traveller_108 rfl (by decide) (fun v9 => ?_)
        refine J_goto (pc := 111) 59 dX3_traveller_111 rfl ?_
        exact J_sub (A := [some (.ref 72), some (.int c1), none, some (.int v8), some (.int v9)]) ⟨rfl, ⟨rfl, ⟨rfl, ⟨rfl, trivial⟩⟩⟩⟩ (ih v8 v9 M8)
      refine J_icmp_ne (pc := 77) 105 dX3_traveller_77 rfl (fun h => if_neg h) (fun h => if_pos h) (fun _ => ?_) (fun _ => ?_)
      · refine J_iconst (pc := 105) 0 dX3_traveller_105 (by decide) ?_
        exact J_sub (A := [some (.ref 72), some (.int c1), none, none, some (.int v5)]) ⟨rfl, ⟨rfl, ⟨rfl, trivial⟩⟩⟩ (hj2 0 M7)
      · refine J_aload_n (pc := 80) dX3_traveller_80 rfl ?_
        refine J_get (pc := 81) (c := 2) (.ref 73) rfl in_X3 0 (by decide) q1107 rfl (fun h => sh_k1 h 52 rfl) (fun h _ => fv_ref (Or.inr ⟨_, rfl⟩) (sh_r h 51 rfl)) dX3_traveller_81 ?_
        refine J_bipush (pc := 84) 13 dX3_traveller_84 (by decide) ?_
        refine J_ck (fun h1 => ?_)
        refine J_iald (pc := 86) (a := 73) (fun h => sh_a h 53 rfl h1) dX3_traveller_86 ?_
        refine J_iload (pc := 87) dX3_traveller_87 rfl ?_
        refine J_callS (pc := 89) (n := 2) (vs := [.int (M7.i 73 (ix 13)), .int v5]) (fun l => C_m_has l (M7.i 73 (ix 13)) v5 M7) (lw_S q1422 q1423 q118 q1424) nmh_X3_has rfl (by omega) (by decide) rfl (Nat.le_of_ble_eq_true rfl) dX3_traveller_89 (fun v10 M9 => ?_)
        refine J_if_eq (pc := 92) 105 dX3_traveller_92 rfl (fun h => if_pos h) (fun h => if_neg h) (fun _ => ?_) (fun _ => ?_)
        · refine J_iconst (pc := 105) 0 dX3_traveller_105 (by decide) ?_
          exact J_sub (A := [some (.ref 72), some (.int c1), none, none, some (.int v5)]) ⟨rfl, ⟨rfl, ⟨rfl, trivial⟩⟩⟩ (hj2 0 M9)
        · refine J_aload_n (pc := 95) dX3_traveller_95 rfl ?_
          refine J_iload (pc := 96) dX3_traveller_96 rfl ?_
          refine J_iconst (pc := 98) 3 dX3_traveller_98 (by decide) ?_
          refine J_callV (pc := 99) (n := 2) (b := 72) (vs := [.int v5, .int 3]) (ci := 2) (fun l => C_m_field l v5 3 M9) (lw_V q1418 q1420 qs83 q118 q1421) nmv_X3_field rfl (by omega) (by decide) rfl (fun h => sh_k1 h 52 rfl) rfl (Nat.le_of_ble_eq_true rfl) dX3_traveller_99 (fun v11 M10 => ?_)
          refine J_goto (pc := 102) 106 dX3_traveller_102 rfl ?_
          exact J_sub (A := [some (.ref 72), some (.int c1), none, none, some (.int v5)]) ⟨rfl, ⟨rfl, ⟨rfl, trivial⟩⟩⟩ (hj2 v11 M10)

def m_traveller (p1 : Int32) (p2 : Int32) (M : PM) : Option (Int32 × PM) :=
    lt (M.si 72 13 0) fun M1 =>
    bd (m_isOne p1 M1) fun v1 M2 =>
    jn (fun (M3 : PM) =>
    bd (m_lost M3) fun v2 M4 =>
    some (v2, M4)) fun j1 =>
    if v1 = 0 then (j1 M2)
    else (bd (m_in p2 0 4 M2) fun v3 M5 =>
    if v3 = 0 then (j1 M5)
    else (if 3 ≤ p2 then (if p2 = 3 then (bd (m_openOf p1 M5) fun v12 M11 =>
    some (v12, M11))
    else (m_traveller_L59 p1 FU 0 0 M5))
    else (ck ((4 * p2) + p1) 44 <|
    some ((M5.i 73 (ix ((4 * p2) + p1))), M5))))

set_option maxHeartbeats 4000000 in
theorem t_m_traveller (G : JG) (p1 : Int32) (p2 : Int32) (M : PM) : T_m_traveller G  M 0 (ent [.ref 72, .int p1, .int p2] 5) [] (m_traveller p1 p2 M) := by
  unfold m_traveller
  refine J_aload_n (pc := 0) dX3_traveller_0 rfl ?_
  refine J_iconst (pc := 1) 0 dX3_traveller_1 (by decide) ?_
  refine J_put (pc := 2) (a := 72) (v := .int 0) (M' := M.si 72 13 0) (c := 2) rfl in_X3 tyX3_ok fnX3 13 (by decide) q1120 rfl (Or.inl rfl) (fun h => sh_k1 h 52 rfl) (fun _ => rfl) (fun _ => rfl) ⟨⟨rfl, rfl⟩, rfl⟩ (fun _ hb => up2_same hb) (fun _ _ => rfl) (fun _ _ => rfl) (put_i (fun _ _ _ => rfl)) (fun h => Sh_si h) dX3_traveller_2 ?_
  refine J_ltM (fun M1 => ?_)
  refine J_aload_n (pc := 5) dX3_traveller_5 rfl ?_
  refine J_iload_n (pc := 6) dX3_traveller_6 rfl ?_
  refine J_callV (pc := 7) (n := 1) (b := 72) (vs := [.int p1]) (ci := 2) (fun l => C_m_isOne l p1 M1) (lw_V q1410 q1412 qs81 q118 q1413) nmv_X3_isOne rfl (by omega) (by decide) rfl (fun h => sh_k1 h 52 rfl) rfl (Nat.le_of_ble_eq_true rfl) dX3_traveller_7 (fun v1 M2 => ?_)
  refine J_jn (P := fun J => ∀ (M3 : PM), T_m_traveller G  M3 22 [some (.ref 72), none, none, none, none] [] (J M3)) (fun M3 => ?_) (fun j1 hj1 => ?_)
  · refine J_aload_n (pc := 22) dX3_traveller_22 rfl ?_
    refine J_callV (pc := 23) (n := 0) (b := 72) (vs := []) (ci := 2) (fun l => C_m_lost l  M3) (lw_V q1387 q1389 qs77 q118 q1390) nmv_X3_lost rfl (by omega) (by decide) rfl (fun h => sh_k1 h 52 rfl) rfl (Nat.le_of_ble_eq_true rfl) dX3_traveller_23 (fun v2 M4 => ?_)
    exact J_iret (pc := 26) dX3_traveller_26
  refine J_if_eq (pc := 10) 22 dX3_traveller_10 rfl (fun h => if_pos h) (fun h => if_neg h) (fun _ => ?_) (fun _ => ?_)
  · exact J_sub (A := [some (.ref 72), none, none, none, none]) ⟨rfl, trivial⟩ (hj1 M2)
  · refine J_iload_n (pc := 13) dX3_traveller_13 rfl ?_
    refine J_iconst (pc := 14) 0 dX3_traveller_14 (by decide) ?_
    refine J_iconst (pc := 15) 4 dX3_traveller_15 (by decide) ?_
    refine J_callS (pc := 16) (n := 3) (vs := [.int p2, .int 0, .int 4]) (fun l => C_m_in l p2 0 4 M2) (lw_S q1289 q1290 q118 q1291) nmh_X3_in rfl (by omega) (by decide) rfl (Nat.le_of_ble_eq_true rfl) dX3_traveller_16 (fun v3 M5 => ?_)
    refine J_if_ne (pc := 19) 27 dX3_traveller_19 rfl (fun h => if_neg h) (fun h => if_pos h) (fun _ => ?_) (fun _ => ?_)
    · refine J_iload_n (pc := 27) dX3_traveller_27 rfl ?_
      refine J_iconst (pc := 28) 3 dX3_traveller_28 (by decide) ?_
      refine J_icmp_ge (pc := 29) 43 dX3_traveller_29 rfl (fun h => if_pos h) (fun h => if_neg h) (fun _ => ?_) (fun _ => ?_)
      · refine J_iload_n (pc := 43) dX3_traveller_43 rfl ?_
        refine J_iconst (pc := 44) 3 dX3_traveller_44 (by decide) ?_
        refine J_icmp_ne (pc := 45) 54 dX3_traveller_45 rfl (fun h => if_neg h) (fun h => if_pos h) (fun _ => ?_) (fun _ => ?_)
        · refine J_iconst (pc := 54) 0 dX3_traveller_54 (by decide) ?_
          refine J_istore_n (pc := 55) dX3_traveller_55 (by decide) ?_
          refine J_iconst (pc := 56) 0 dX3_traveller_56 (by decide) ?_
          refine J_istore (pc := 57) dX3_traveller_57 (by decide) ?_
          refine J_sub (A := [some (.ref 72), some (.int p1), none, some (.int 0), some (.int 0)]) ⟨rfl, ⟨rfl, ⟨rfl, ⟨rfl, trivial⟩⟩⟩⟩ (t_m_traveller_L59 G p1  FU 0 0 M5)
        · refine J_aload_n (pc := 48) dX3_traveller_48 rfl ?_
          refine J_iload_n (pc := 49) dX3_traveller_49 rfl ?_
          refine J_callV (pc := 50) (n := 1) (b := 72) (vs := [.int p1]) (ci := 2) (fun l => C_m_openOf l p1 M5) (lw_V q1414 q1416 qs82 q118 q1417) nmv_X3_openOf rfl (by omega) (by decide) rfl (fun h => sh_k1 h 52 rfl) rfl (Nat.le_of_ble_eq_true rfl) dX3_traveller_50 (fun v12 M11 => ?_)
          exact J_iret (pc := 53) dX3_traveller_53
      · refine J_aload_n (pc := 32) dX3_traveller_32 rfl ?_
        refine J_get (pc := 33) (c := 2) (.ref 73) rfl in_X3 0 (by decide) q1107 rfl (fun h => sh_k1 h 52 rfl) (fun h _ => fv_ref (Or.inr ⟨_, rfl⟩) (sh_r h 51 rfl)) dX3_traveller_33 ?_
        refine J_iconst (pc := 36) 4 dX3_traveller_36 (by decide) ?_
        refine J_iload_n (pc := 37) dX3_traveller_37 rfl ?_
        refine J_imul (pc := 38) dX3_traveller_38 ?_
        refine J_iload_n (pc := 39) dX3_traveller_39 rfl ?_
        refine J_iadd (pc := 40) dX3_traveller_40 ?_
        refine J_ck (fun h2 => ?_)
        refine J_iald (pc := 41) (a := 73) (fun h => sh_a h 53 rfl h2) dX3_traveller_41 ?_
        exact J_iret (pc := 42) dX3_traveller_42
    · exact J_sub (A := [some (.ref 72), none, none, none, none]) ⟨rfl, trivial⟩ (hj1 M5)

theorem C_m_traveller (l : Launch) (p1 : Int32) (p2 : Int32) (M : PM) : Ctr l Sh yX3_traveller cX3_traveller 5 (some .int) 3 rvI [.ref 72, .int p1, .int p2] M (m_traveller p1 p2 M) := Ctr.of (by decide +kernel) (Nat.le_of_ble_eq_true rfl) (fun G => t_m_traveller G p1 p2 M)

abbrev T_m_errand (G : JG) (M : PM) (pc : Nat) (L : List (Option Value)) (S : List Value) (o : Option (Int32 × PM)) : Prop := JJ G cX3_errand yX3_errand 3 2 (some .int) Sh (finR G Sh rvI) M pc L S o
def m_errand (p1 : Int32) (p2 : Int32) (M : PM) : Option (Int32 × PM) :=
    lt (M.si 72 13 0) fun M1 =>
    bd (m_in p1 0 ((M1.i 72 7) - 1) M1) fun v1 M2 =>
    jn (fun (M3 : PM) =>
    bd (m_lost M3) fun v2 M4 =>
    some (v2, M4)) fun j1 =>
    if v1 = 0 then (j1 M2)
    else (bd (m_in p2 0 4 M2) fun v3 M5 =>
    if v3 = 0 then (j1 M5)
    else (if 4 ≤ p2 then (ck 13 44 <|
    some ((((M5.i 73 (ix 13)) >>> (p1 &&& 31)) &&& 1), M5))
    else (bd (m_field p1 p2 M5) fun v4 M6 =>
    some (v4, M6))))

set_option maxHeartbeats 4000000 in
theorem t_m_errand (G : JG) (p1 : Int32) (p2 : Int32) (M : PM) : T_m_errand G  M 0 (ent [.ref 72, .int p1, .int p2] 3) [] (m_errand p1 p2 M) := by
  unfold m_errand
  refine J_aload_n (pc := 0) dX3_errand_0 rfl ?_
  refine J_iconst (pc := 1) 0 dX3_errand_1 (by decide) ?_
  refine J_put (pc := 2) (a := 72) (v := .int 0) (M' := M.si 72 13 0) (c := 2) rfl in_X3 tyX3_ok fnX3 13 (by decide) q1120 rfl (Or.inl rfl) (fun h => sh_k1 h 52 rfl) (fun _ => rfl) (fun _ => rfl) ⟨⟨rfl, rfl⟩, rfl⟩ (fun _ hb => up2_same hb) (fun _ _ => rfl) (fun _ _ => rfl) (put_i (fun _ _ _ => rfl)) (fun h => Sh_si h) dX3_errand_2 ?_
  refine J_ltM (fun M1 => ?_)
  refine J_iload_n (pc := 5) dX3_errand_5 rfl ?_
  refine J_iconst (pc := 6) 0 dX3_errand_6 (by decide) ?_
  refine J_aload_n (pc := 7) dX3_errand_7 rfl ?_
  refine J_get (pc := 8) (c := 2) (.int (M1.i 72 7)) rfl in_X3 7 (by decide) q1114 rfl (fun h => sh_k1 h 52 rfl) (fun _ _ => rfl) dX3_errand_8 ?_
  refine J_iconst (pc := 11) 1 dX3_errand_11 (by decide) ?_
  refine J_isub (pc := 12) dX3_errand_12 ?_
  refine J_callS (pc := 13) (n := 3) (vs := [.int p1, .int 0, .int ((M1.i 72 7) - 1)]) (fun l => C_m_in l p1 0 ((M1.i 72 7) - 1) M1) (lw_S q1289 q1290 q118 q1291) nmh_X3_in rfl (by omega) (by decide) rfl (Nat.le_of_ble_eq_true rfl) dX3_errand_13 (fun v1 M2 => ?_)
  refine J_jn (P := fun J => ∀ (M3 : PM), T_m_errand G  M3 28 [some (.ref 72), none, none] [] (J M3)) (fun M3 => ?_) (fun j1 hj1 => ?_)
  · refine J_aload_n (pc := 28) dX3_errand_28 rfl ?_
    refine J_callV (pc := 29) (n := 0) (b := 72) (vs := []) (ci := 2) (fun l => C_m_lost l  M3) (lw_V q1387 q1389 qs77 q118 q1390) nmv_X3_lost rfl (by omega) (by decide) rfl (fun h => sh_k1 h 52 rfl) rfl (Nat.le_of_ble_eq_true rfl) dX3_errand_29 (fun v2 M4 => ?_)
    exact J_iret (pc := 32) dX3_errand_32
  refine J_if_eq (pc := 16) 28 dX3_errand_16 rfl (fun h => if_pos h) (fun h => if_neg h) (fun _ => ?_) (fun _ => ?_)
  · exact J_sub (A := [some (.ref 72), none, none]) ⟨rfl, trivial⟩ (hj1 M2)
  · refine J_iload_n (pc := 19) dX3_errand_19 rfl ?_
    refine J_iconst (pc := 20) 0 dX3_errand_20 (by decide) ?_
    refine J_iconst (pc := 21) 4 dX3_errand_21 (by decide) ?_
    refine J_callS (pc := 22) (n := 3) (vs := [.int p2, .int 0, .int 4]) (fun l => C_m_in l p2 0 4 M2) (lw_S q1289 q1290 q118 q1291) nmh_X3_in rfl (by omega) (by decide) rfl (Nat.le_of_ble_eq_true rfl) dX3_errand_22 (fun v3 M5 => ?_)
    refine J_if_ne (pc := 25) 33 dX3_errand_25 rfl (fun h => if_neg h) (fun h => if_pos h) (fun _ => ?_) (fun _ => ?_)
    · refine J_iload_n (pc := 33) dX3_errand_33 rfl ?_
      refine J_iconst (pc := 34) 4 dX3_errand_34 (by decide) ?_
      refine J_icmp_ge (pc := 35) 47 dX3_errand_35 rfl (fun h => if_pos h) (fun h => if_neg h) (fun _ => ?_) (fun _ => ?_)
      · refine J_aload_n (pc := 47) dX3_errand_47 rfl ?_
        refine J_get (pc := 48) (c := 2) (.ref 73) rfl in_X3 0 (by decide) q1107 rfl (fun h => sh_k1 h 52 rfl) (fun h _ => fv_ref (Or.inr ⟨_, rfl⟩) (sh_r h 51 rfl)) dX3_errand_48 ?_
        refine J_bipush (pc := 51) 13 dX3_errand_51 (by decide) ?_
        refine J_ck (fun h1 => ?_)
        refine J_iald (pc := 53) (a := 73) (fun h => sh_a h 53 rfl h1) dX3_errand_53 ?_
        refine J_iload_n (pc := 54) dX3_errand_54 rfl ?_
        refine J_ishr (pc := 55) dX3_errand_55 ?_
        refine J_iconst (pc := 56) 1 dX3_errand_56 (by decide) ?_
        refine J_iand (pc := 57) dX3_errand_57 ?_
        exact J_iret (pc := 58) dX3_errand_58
      · refine J_aload_n (pc := 38) dX3_errand_38 rfl ?_
        refine J_iload_n (pc := 39) dX3_errand_39 rfl ?_
        refine J_iload_n (pc := 40) dX3_errand_40 rfl ?_
        refine J_callV (pc := 41) (n := 2) (b := 72) (vs := [.int p1, .int p2]) (ci := 2) (fun l => C_m_field l p1 p2 M5) (lw_V q1418 q1420 qs83 q118 q1421) nmv_X3_field rfl (by omega) (by decide) rfl (fun h => sh_k1 h 52 rfl) rfl (Nat.le_of_ble_eq_true rfl) dX3_errand_41 (fun v4 M6 => ?_)
        refine J_goto (pc := 44) 58 dX3_errand_44 rfl ?_
        exact J_iret (pc := 58) dX3_errand_58
    · exact J_sub (A := [some (.ref 72), none, none]) ⟨rfl, trivial⟩ (hj1 M5)

theorem C_m_errand (l : Launch) (p1 : Int32) (p2 : Int32) (M : PM) : Ctr l Sh yX3_errand cX3_errand 3 (some .int) 2 rvI [.ref 72, .int p1, .int p2] M (m_errand p1 p2 M) := Ctr.of (by decide +kernel) (Nat.le_of_ble_eq_true rfl) (fun G => t_m_errand G p1 p2 M)

abbrev T_m_isStation (G : JG) (M : PM) (pc : Nat) (L : List (Option Value)) (S : List Value) (o : Option (Int32 × PM)) : Prop := JJ G cX3_isStation yX3_isStation 2 2 (some .boolean) Sh (finR G Sh rvI) M pc L S o
def m_isStation (p1 : Int32) (M : PM) : Option (Int32 × PM) :=
    bd (m_in p1 0 ((M.i 72 1) - 1) M) fun v1 M1 =>
    ckb (v1 = 0 ∨ v1 = 1) <|
    some (v1, M1)

set_option maxHeartbeats 4000000 in
theorem t_m_isStation (G : JG) (p1 : Int32) (M : PM) : T_m_isStation G  M 0 (ent [.ref 72, .int p1] 2) [] (m_isStation p1 M) := by
  unfold m_isStation
  refine J_iload_n (pc := 0) dX3_isStation_0 rfl ?_
  refine J_iconst (pc := 1) 0 dX3_isStation_1 (by decide) ?_
  refine J_aload_n (pc := 2) dX3_isStation_2 rfl ?_
  refine J_get (pc := 3) (c := 2) (.int (M.i 72 1)) rfl in_X3 1 (by decide) q1108 rfl (fun h => sh_k1 h 52 rfl) (fun _ _ => rfl) dX3_isStation_3 ?_
  refine J_iconst (pc := 6) 1 dX3_isStation_6 (by decide) ?_
  refine J_isub (pc := 7) dX3_isStation_7 ?_
  refine J_callS (pc := 8) (n := 3) (vs := [.int p1, .int 0, .int ((M.i 72 1) - 1)]) (fun l => C_m_in l p1 0 ((M.i 72 1) - 1) M) (lw_S q1289 q1290 q118 q1291) nmh_X3_in rfl (by omega) (by decide) rfl (Nat.le_of_ble_eq_true rfl) dX3_isStation_8 (fun v1 M1 => ?_)
  refine J_ckb (fun h1 => ?_)
  exact J_zret (pc := 11) (nz h1) dX3_isStation_11

theorem C_m_isStation (l : Launch) (p1 : Int32) (M : PM) : Ctr l Sh yX3_isStation cX3_isStation 2 (some .boolean) 2 rvI [.ref 72, .int p1] M (m_isStation p1 M) := Ctr.of (by decide +kernel) (Nat.le_of_ble_eq_true rfl) (fun G => t_m_isStation G p1 M)

abbrev T_m_book (G : JG) (M : PM) (pc : Nat) (L : List (Option Value)) (S : List Value) (o : Option (Int32 × PM)) : Prop := JJ G cX3_book yX3_book 3 3 (some .int) Sh (finR G Sh rvI) M pc L S o
def m_book (p1 : Int32) (p2 : Int32) (M : PM) : Option (Int32 × PM) :=
    lt (M.si 72 13 0) fun M1 =>
    bd (m_isStation p1 M1) fun v1 M2 =>
    jn (fun (M3 : PM) =>
    bd (m_lost M3) fun v2 M4 =>
    some (v2, M4)) fun j1 =>
    if v1 = 0 then (j1 M2)
    else (bd (m_in p2 0 4 M2) fun v3 M5 =>
    if v3 = 0 then (j1 M5)
    else (ck ((14 + (5 * p1)) + p2) 44 <|
    some ((M5.i 73 (ix ((14 + (5 * p1)) + p2))), M5)))

set_option maxHeartbeats 4000000 in
theorem t_m_book (G : JG) (p1 : Int32) (p2 : Int32) (M : PM) : T_m_book G  M 0 (ent [.ref 72, .int p1, .int p2] 3) [] (m_book p1 p2 M) := by
  unfold m_book
  refine J_aload_n (pc := 0) dX3_book_0 rfl ?_
  refine J_iconst (pc := 1) 0 dX3_book_1 (by decide) ?_
  refine J_put (pc := 2) (a := 72) (v := .int 0) (M' := M.si 72 13 0) (c := 2) rfl in_X3 tyX3_ok fnX3 13 (by decide) q1120 rfl (Or.inl rfl) (fun h => sh_k1 h 52 rfl) (fun _ => rfl) (fun _ => rfl) ⟨⟨rfl, rfl⟩, rfl⟩ (fun _ hb => up2_same hb) (fun _ _ => rfl) (fun _ _ => rfl) (put_i (fun _ _ _ => rfl)) (fun h => Sh_si h) dX3_book_2 ?_
  refine J_ltM (fun M1 => ?_)
  refine J_aload_n (pc := 5) dX3_book_5 rfl ?_
  refine J_iload_n (pc := 6) dX3_book_6 rfl ?_
  refine J_callV (pc := 7) (n := 1) (b := 72) (vs := [.int p1]) (ci := 2) (fun l => C_m_isStation l p1 M1) (lw_V q1433 q1435 qs84 q118 q1436) nmv_X3_isStation rfl (by omega) (by decide) rfl (fun h => sh_k1 h 52 rfl) rfl (Nat.le_of_ble_eq_true rfl) dX3_book_7 (fun v1 M2 => ?_)
  refine J_jn (P := fun J => ∀ (M3 : PM), T_m_book G  M3 38 [some (.ref 72), none, none] [] (J M3)) (fun M3 => ?_) (fun j1 hj1 => ?_)
  · refine J_aload_n (pc := 38) dX3_book_38 rfl ?_
    refine J_callV (pc := 39) (n := 0) (b := 72) (vs := []) (ci := 2) (fun l => C_m_lost l  M3) (lw_V q1387 q1389 qs77 q118 q1390) nmv_X3_lost rfl (by omega) (by decide) rfl (fun h => sh_k1 h 52 rfl) rfl (Nat.le_of_ble_eq_true rfl) dX3_book_39 (fun v2 M4 => ?_)
    exact J_iret (pc := 42) dX3_book_42
  refine J_if_eq (pc := 10) 38 dX3_book_10 rfl (fun h => if_pos h) (fun h => if_neg h) (fun _ => ?_) (fun _ => ?_)
  · exact J_sub (A := [some (.ref 72), none, none]) ⟨rfl, trivial⟩ (hj1 M2)
  · refine J_iload_n (pc := 13) dX3_book_13 rfl ?_
    refine J_iconst (pc := 14) 0 dX3_book_14 (by decide) ?_
    refine J_iconst (pc := 15) 4 dX3_book_15 (by decide) ?_
    refine J_callS (pc := 16) (n := 3) (vs := [.int p2, .int 0, .int 4]) (fun l => C_m_in l p2 0 4 M2) (lw_S q1289 q1290 q118 q1291) nmh_X3_in rfl (by omega) (by decide) rfl (Nat.le_of_ble_eq_true rfl) dX3_book_16 (fun v3 M5 => ?_)
    refine J_if_eq (pc := 19) 38 dX3_book_19 rfl (fun h => if_pos h) (fun h => if_neg h) (fun _ => ?_) (fun _ => ?_)
    · exact J_sub (A := [some (.ref 72), none, none]) ⟨rfl, trivial⟩ (hj1 M5)
    · refine J_aload_n (pc := 22) dX3_book_22 rfl ?_
      refine J_get (pc := 23) (c := 2) (.ref 73) rfl in_X3 0 (by decide) q1107 rfl (fun h => sh_k1 h 52 rfl) (fun h _ => fv_ref (Or.inr ⟨_, rfl⟩) (sh_r h 51 rfl)) dX3_book_23 ?_
      refine J_bipush (pc := 26) 14 dX3_book_26 (by decide) ?_
      refine J_iconst (pc := 28) 5 dX3_book_28 (by decide) ?_
      refine J_iload_n (pc := 29) dX3_book_29 rfl ?_
      refine J_imul (pc := 30) dX3_book_30 ?_
      refine J_iadd (pc := 31) dX3_book_31 ?_
      refine J_iload_n (pc := 32) dX3_book_32 rfl ?_
      refine J_iadd (pc := 33) dX3_book_33 ?_
      refine J_ck (fun h1 => ?_)
      refine J_iald (pc := 34) (a := 73) (fun h => sh_a h 53 rfl h1) dX3_book_34 ?_
      refine J_goto (pc := 35) 42 dX3_book_35 rfl ?_
      exact J_iret (pc := 42) dX3_book_42

theorem C_m_book (l : Launch) (p1 : Int32) (p2 : Int32) (M : PM) : Ctr l Sh yX3_book cX3_book 3 (some .int) 3 rvI [.ref 72, .int p1, .int p2] M (m_book p1 p2 M) := Ctr.of (by decide +kernel) (Nat.le_of_ble_eq_true rfl) (fun G => t_m_book G p1 p2 M)

abbrev T_m_sheet (G : JG) (M : PM) (pc : Nat) (L : List (Option Value)) (S : List Value) (o : Option (Int32 × PM)) : Prop := JJ G cX3_sheet yX3_sheet 9 2 (some .int) Sh (finR G Sh rvI) M pc L S o
def m_sheet_L42 (c1 : Int32) (c2 : Int32) (c4 : Int32) (k139 : Int32 → PM → Option (Int32 × PM)) : Nat → Int32 → Int32 → Int32 → PM → Option (Int32 × PM)
  | 0, _, _, _, _ => none
  | n + 1, v2, v3, v4, M4 =>
    if (M4.i 72 6) ≤ v4 then (k139 v2 M4)
    else (lt (if c1 = 0 then ((Int32.toInt8 v3).toInt32) else (if c1 = 1 then ((Int32.toInt16 v3).toInt32) else v3) : Int32) fun v5 =>
    jn (fun (v6 : Int32) (M5 : PM) =>
    ck (4 + v4) 44 <|
    lt (M5.si 73 (ix (4 + v4)) v6) fun M6 =>
    ck (4 + v4) 44 <|
    lt (v2 + (M6.i 73 (ix (4 + v4)))) fun v7 =>
    lt (v3 + c4) fun v8 =>
    lt (v4 + 1) fun v9 =>
    m_sheet_L42 c1 c2 c4 k139 n v7 v8 v9 M6) fun j3 =>
    if c1 = 3 then (j3 0 M4)
    else (if v4 < c2 then (j3 (imax 0 (imin 9999 v5)) M4)
    else (j3 0 M4)))

set_option maxHeartbeats 4000000 in
theorem t_m_sheet_L42 (G : JG) (c1 : Int32) (c2 : Int32) (c4 : Int32) (k139 : Int32 → PM → Option (Int32 × PM)) (hk139 : ∀ z5 Me, T_m_sheet G  Me 139 [none, some (.int c1), none, none, none, some (.int z5), none, none, none] [] (k139 z5 Me)) : ∀ (n : Nat) (v2 : Int32) (v3 : Int32) (v4 : Int32) (M4 : PM), T_m_sheet G  M4 42 [some (.ref 72), some (.int c1), some (.int c2), none, some (.int c4), some (.int v2), some (.int v3), some (.int v4), none] [] (m_sheet_L42 c1 c2 c4 k139 n v2 v3 v4 M4) := by
  intro n
  induction n with
  | zero =>
    intro v2 v3 v4 M4
    exact J_none
  | succ n ih =>
    intro v2 v3 v4 M4
    rw [m_sheet_L42]
    refine J_iload (pc := 42) dX3_sheet_42 rfl ?_
    refine J_aload_n (pc := 44) dX3_sheet_44 rfl ?_
    refine J_get (pc := 45) (c := 2) (.int (M4.i 72 6)) rfl in_X3 6 (by decide) q1113 rfl (fun h => sh_k1 h 52 rfl) (fun _ _ => rfl) dX3_sheet_45 ?_
    refine J_icmp_ge (pc := 48) 139 dX3_sheet_48 rfl (fun h => if_pos h) (fun h => if_neg h) (fun _ => ?_) (fun _ => ?_)
    · exact J_sub (A := [none, some (.int c1), none, none, none, some (.int v2), none, none, none]) ⟨rfl, ⟨rfl, trivial⟩⟩ (hk139 v2 M4)
    · refine J_iload_n (pc := 51) dX3_sheet_51 rfl ?_
      refine J_ltj (β := Int32) (P := fun J => ∀ v5 : Int32, T_m_sheet G M4 74 [some (.ref 72), some (.int c1), some (.int c2), none, some (.int c4), some (.int v2), some (.int v3), some (.int v4), none] [.int v5] (J v5)) (fun v5 => ?_) (fun j2 hj2 => ?_)
      · refine J_istore (pc := 74) dX3_sheet_74 (by decide) ?_
        refine J_aload_n (pc := 76) dX3_sheet_76 rfl ?_
        refine J_get (pc := 77) (c := 2) (.ref 73) rfl in_X3 0 (by decide) q1107 rfl (fun h => sh_k1 h 52 rfl) (fun h _ => fv_ref (Or.inr ⟨_, rfl⟩) (sh_r h 51 rfl)) dX3_sheet_77 ?_
        refine J_iconst (pc := 80) 4 dX3_sheet_80 (by decide) ?_
        refine J_iload (pc := 81) dX3_sheet_81 rfl ?_
        refine J_iadd (pc := 83) dX3_sheet_83 ?_
        refine J_iload_n (pc := 84) dX3_sheet_84 rfl ?_
        refine J_iconst (pc := 85) 3 dX3_sheet_85 (by decide) ?_
        refine J_jn (P := fun J => ∀ (v6 : Int32) (M5 : PM), T_m_sheet G  M5 111 [some (.ref 72), some (.int c1), some (.int c2), none, some (.int c4), some (.int v2), some (.int v3), some (.int v4), none] [.int v6, .int (4 + v4), .ref 73] (J v6 M5)) (fun v6 M5 => ?_) (fun j3 hj3 => ?_)
        · refine J_ck (fun h1 => ?_)
          refine J_iast (pc := 111) (a := 73) (fun h => sh_a h 53 rfl h1) (fun h => Sh_si h) dX3_sheet_111 ?_
          refine J_ltM (fun M6 => ?_)
          refine J_iload (pc := 112) dX3_sheet_112 rfl ?_
          refine J_aload_n (pc := 114) dX3_sheet_114 rfl ?_
          refine J_get (pc := 115) (c := 2) (.ref 73) rfl in_X3 0 (by decide) q1107 rfl (fun h => sh_k1 h 52 rfl) (fun h _ => fv_ref (Or.inr ⟨_, rfl⟩) (sh_r h 51 rfl)) dX3_sheet_115 ?_
          refine J_iconst (pc := 118) 4 dX3_sheet_118 (by decide) ?_
          refine J_iload (pc := 119) dX3_sheet_119 rfl ?_
          refine J_iadd (pc := 121) dX3_sheet_121 ?_
          refine J_ck (fun h2 => ?_)
          refine J_iald (pc := 122) (a := 73) (fun h => sh_a h 53 rfl h2) dX3_sheet_122 ?_
          refine J_iadd (pc := 123) dX3_sheet_123 ?_
          refine J_lt (β := Int32) (v := (v2 + (M6.i 73 (ix (4 + v4))))) (L := fun _ => _) (S := fun v7 => [.int v7]) (fun v7 => ?_)
          refine J_istore (pc := 124) dX3_sheet_124 (by decide) ?_
          refine J_iload (pc := 126) dX3_sheet_126 rfl ?_
          refine J_iload (pc := 128) dX3_sheet_128 rfl ?_
          refine J_iadd (pc := 130) dX3_sheet_130 ?_
          refine J_lt (β := Int32) (v := (v3 + c4)) (L := fun _ => _) (S := fun v8 => [.int v8]) (fun v8 => ?_)
          refine J_istore (pc := 131) dX3_sheet_131 (by decide) ?_
          refine J_iincL (pc := 133) (n := 1) (by decide) dX3_sheet_133 rfl (by decide) (fun v9 => ?_)
          refine J_goto (pc := 136) 42 dX3_sheet_136 rfl ?_
          exact J_sub (A := [some (.ref 72), some (.int c1), some (.int c2), none, some (.int c4), some (.int v7), some (.int v8), some (.int v9), none]) ⟨rfl, ⟨rfl, ⟨rfl, ⟨rfl, ⟨rfl, ⟨rfl, ⟨rfl, trivial⟩⟩⟩⟩⟩⟩⟩ (ih v7 v8 v9 M6)
        refine J_icmp_eq (pc := 86) 95 dX3_sheet_86 rfl (fun h => if_pos h) (fun h => if_neg h) (fun _ => ?_) (fun _ => ?_)
        · refine J_iconst (pc := 95) 0 dX3_sheet_95 (by decide) ?_
          refine J_goto (pc := 96) 111 dX3_sheet_96 rfl ?_
          exact J_sub (A := [some (.ref 72), some (.int c1), some (.int c2), none, some (.int c4), some (.int v2), some (.int v3), some (.int v4), none]) ⟨rfl, ⟨rfl, ⟨rfl, ⟨rfl, ⟨rfl, ⟨rfl, ⟨rfl, trivial⟩⟩⟩⟩⟩⟩⟩ (hj3 0 M4)
        · refine J_iload (pc := 89) dX3_sheet_89 rfl ?_
          refine J_iload_n (pc := 91) dX3_sheet_91 rfl ?_
          refine J_icmp_lt (pc := 92) 99 dX3_sheet_92 rfl (fun h => if_pos h) (fun h => if_neg h) (fun _ => ?_) (fun _ => ?_)
          · refine J_iconst (pc := 99) 0 dX3_sheet_99 (by decide) ?_
            refine J_sipush (pc := 100) 9999 dX3_sheet_100 (by decide) ?_
            refine J_iload (pc := 103) dX3_sheet_103 rfl ?_
            refine J_min (pc := 105) (by omega) q1441 q410 q119 q411 (Nat.le_of_ble_eq_true rfl) dX3_sheet_105 ?_
            refine J_max (pc := 108) (by omega) q1442 q454 q119 q455 (Nat.le_of_ble_eq_true rfl) dX3_sheet_108 ?_
            exact J_sub (A := [some (.ref 72), some (.int c1), some (.int c2), none, some (.int c4), some (.int v2), some (.int v3), some (.int v4), none]) ⟨rfl, ⟨rfl, ⟨rfl, ⟨rfl, ⟨rfl, ⟨rfl, ⟨rfl, trivial⟩⟩⟩⟩⟩⟩⟩ (hj3 (imax 0 (imin 9999 v5)) M4)
          · refine J_iconst (pc := 95) 0 dX3_sheet_95 (by decide) ?_
            refine J_goto (pc := 96) 111 dX3_sheet_96 rfl ?_
            exact J_sub (A := [some (.ref 72), some (.int c1), some (.int c2), none, some (.int c4), some (.int v2), some (.int v3), some (.int v4), none]) ⟨rfl, ⟨rfl, ⟨rfl, ⟨rfl, ⟨rfl, ⟨rfl, ⟨rfl, trivial⟩⟩⟩⟩⟩⟩⟩ (hj3 0 M4)
      refine J_if_ne (pc := 52) 61 dX3_sheet_52 rfl (fun h => congrArg j2 (if_neg h)) (fun h => congrArg j2 (if_pos h)) (fun _ => ?_) (fun _ => ?_)
      · refine J_iload_n (pc := 61) dX3_sheet_61 rfl ?_
        refine J_iconst (pc := 62) 1 dX3_sheet_62 (by decide) ?_
        refine J_icmp_ne (pc := 63) 72 dX3_sheet_63 rfl (fun h => congrArg j2 (if_neg h)) (fun h => congrArg j2 (if_pos h)) (fun _ => ?_) (fun _ => ?_)
        · refine J_iload (pc := 72) dX3_sheet_72 rfl ?_
          exact J_sub (A := [some (.ref 72), some (.int c1), some (.int c2), none, some (.int c4), some (.int v2), some (.int v3), some (.int v4), none]) ⟨rfl, ⟨rfl, ⟨rfl, ⟨rfl, ⟨rfl, ⟨rfl, ⟨rfl, trivial⟩⟩⟩⟩⟩⟩⟩ (hj2 v3)
        · refine J_iload (pc := 66) dX3_sheet_66 rfl ?_
          refine J_i2s (pc := 68) dX3_sheet_68 ?_
          refine J_goto (pc := 69) 74 dX3_sheet_69 rfl ?_
          exact J_sub (A := [some (.ref 72), some (.int c1), some (.int c2), none, some (.int c4), some (.int v2), some (.int v3), some (.int v4), none]) ⟨rfl, ⟨rfl, ⟨rfl, ⟨rfl, ⟨rfl, ⟨rfl, ⟨rfl, trivial⟩⟩⟩⟩⟩⟩⟩ (hj2 ((Int32.toInt16 v3).toInt32))
      · refine J_iload (pc := 55) dX3_sheet_55 rfl ?_
        refine J_i2b (pc := 57) dX3_sheet_57 ?_
        refine J_goto (pc := 58) 74 dX3_sheet_58 rfl ?_
        exact J_sub (A := [some (.ref 72), some (.int c1), some (.int c2), none, some (.int c4), some (.int v2), some (.int v3), some (.int v4), none]) ⟨rfl, ⟨rfl, ⟨rfl, ⟨rfl, ⟨rfl, ⟨rfl, ⟨rfl, trivial⟩⟩⟩⟩⟩⟩⟩ (hj2 ((Int32.toInt8 v3).toInt32))

def m_sheet (p1 : Int32) (p2 : Int32) (p3 : Int32) (p4 : Int32) (M : PM) : Option (Int32 × PM) :=
    lt (M.si 72 13 0) fun M1 =>
    bd (m_in p1 0 3 M1) fun v1 M2 =>
    if v1 = 0 then (some ((-1), M2))
    else (if p2 ≤ 4 then (jn (fun (M3 : PM) =>
    m_sheet_L42 p1 p2 p4 (fun (v10 : Int32) (M7 : PM) =>
    if p1 = 3 then (some ((-3), M7))
    else (some (v10, M7))) FU 0 p3 0 M3) fun j1 =>
    if 3 ≤ p1 then (j1 M2)
    else (if 0 ≤ p2 then (j1 M2)
    else (some ((-2), M2))))
    else (some ((-1), M2)))

set_option maxHeartbeats 4000000 in
theorem t_m_sheet (G : JG) (p1 : Int32) (p2 : Int32) (p3 : Int32) (p4 : Int32) (M : PM) : T_m_sheet G  M 0 (ent [.ref 72, .int p1, .int p2, .int p3, .int p4] 9) [] (m_sheet p1 p2 p3 p4 M) := by
  unfold m_sheet
  refine J_aload_n (pc := 0) dX3_sheet_0 rfl ?_
  refine J_iconst (pc := 1) 0 dX3_sheet_1 (by decide) ?_
  refine J_put (pc := 2) (a := 72) (v := .int 0) (M' := M.si 72 13 0) (c := 2) rfl in_X3 tyX3_ok fnX3 13 (by decide) q1120 rfl (Or.inl rfl) (fun h => sh_k1 h 52 rfl) (fun _ => rfl) (fun _ => rfl) ⟨⟨rfl, rfl⟩, rfl⟩ (fun _ hb => up2_same hb) (fun _ _ => rfl) (fun _ _ => rfl) (put_i (fun _ _ _ => rfl)) (fun h => Sh_si h) dX3_sheet_2 ?_
  refine J_ltM (fun M1 => ?_)
  refine J_iload_n (pc := 5) dX3_sheet_5 rfl ?_
  refine J_iconst (pc := 6) 0 dX3_sheet_6 (by decide) ?_
  refine J_iconst (pc := 7) 3 dX3_sheet_7 (by decide) ?_
  refine J_callS (pc := 8) (n := 3) (vs := [.int p1, .int 0, .int 3]) (fun l => C_m_in l p1 0 3 M1) (lw_S q1289 q1290 q118 q1291) nmh_X3_in rfl (by omega) (by decide) rfl (Nat.le_of_ble_eq_true rfl) dX3_sheet_8 (fun v1 M2 => ?_)
  refine J_if_eq (pc := 11) 19 dX3_sheet_11 rfl (fun h => if_pos h) (fun h => if_neg h) (fun _ => ?_) (fun _ => ?_)
  · refine J_iconst (pc := 19) (-1) dX3_sheet_19 (by decide) ?_
    exact J_iret (pc := 20) dX3_sheet_20
  · refine J_iload_n (pc := 14) dX3_sheet_14 rfl ?_
    refine J_iconst (pc := 15) 4 dX3_sheet_15 (by decide) ?_
    refine J_icmp_le (pc := 16) 21 dX3_sheet_16 rfl (fun h => if_pos h) (fun h => if_neg h) (fun _ => ?_) (fun _ => ?_)
    · refine J_iload_n (pc := 21) dX3_sheet_21 rfl ?_
      refine J_iconst (pc := 22) 3 dX3_sheet_22 (by decide) ?_
      refine J_jn (P := fun J => ∀ (M3 : PM), T_m_sheet G  M3 33 [some (.ref 72), some (.int p1), some (.int p2), some (.int p3), some (.int p4), none, none, none, none] [] (J M3)) (fun M3 => ?_) (fun j1 hj1 => ?_)
      · refine J_iconst (pc := 33) 0 dX3_sheet_33 (by decide) ?_
        refine J_istore (pc := 34) dX3_sheet_34 (by decide) ?_
        refine J_iload_n (pc := 36) dX3_sheet_36 rfl ?_
        refine J_istore (pc := 37) dX3_sheet_37 (by decide) ?_
        refine J_iconst (pc := 39) 0 dX3_sheet_39 (by decide) ?_
        refine J_istore (pc := 40) dX3_sheet_40 (by decide) ?_
        refine J_sub (A := [some (.ref 72), some (.int p1), some (.int p2), none, some (.int p4), some (.int 0), some (.int p3), some (.int 0), none]) ⟨rfl, ⟨rfl, ⟨rfl, ⟨rfl, ⟨rfl, ⟨rfl, ⟨rfl, trivial⟩⟩⟩⟩⟩⟩⟩ (t_m_sheet_L42 G p1 p2 p4 _ ?_ FU 0 p3 0 M3)
        · intro v10 M7
          refine J_iload_n (pc := 139) dX3_sheet_139 rfl ?_
          refine J_iconst (pc := 140) 3 dX3_sheet_140 (by decide) ?_
          refine J_icmp_ne (pc := 141) 149 dX3_sheet_141 rfl (fun h => if_neg h) (fun h => if_pos h) (fun _ => ?_) (fun _ => ?_)
          · refine J_iload (pc := 149) dX3_sheet_149 rfl ?_
            exact J_iret (pc := 151) dX3_sheet_151
          · refine J_bipush (pc := 144) (-3) dX3_sheet_144 (by decide) ?_
            refine J_goto (pc := 146) 151 dX3_sheet_146 rfl ?_
            exact J_iret (pc := 151) dX3_sheet_151
      refine J_icmp_ge (pc := 23) 33 dX3_sheet_23 rfl (fun h => if_pos h) (fun h => if_neg h) (fun _ => ?_) (fun _ => ?_)
      · exact J_sub (A := [some (.ref 72), some (.int p1), some (.int p2), some (.int p3), some (.int p4), none, none, none, none]) ⟨rfl, ⟨rfl, ⟨rfl, ⟨rfl, ⟨rfl, trivial⟩⟩⟩⟩⟩ (hj1 M2)
      · refine J_iload_n (pc := 26) dX3_sheet_26 rfl ?_
        refine J_if_ge (pc := 27) 33 dX3_sheet_27 rfl (fun h => if_pos h) (fun h => if_neg h) (fun _ => ?_) (fun _ => ?_)
        · exact J_sub (A := [some (.ref 72), some (.int p1), some (.int p2), some (.int p3), some (.int p4), none, none, none, none]) ⟨rfl, ⟨rfl, ⟨rfl, ⟨rfl, ⟨rfl, trivial⟩⟩⟩⟩⟩ (hj1 M2)
        · refine J_bipush (pc := 30) (-2) dX3_sheet_30 (by decide) ?_
          exact J_iret (pc := 32) dX3_sheet_32
    · refine J_iconst (pc := 19) (-1) dX3_sheet_19 (by decide) ?_
      exact J_iret (pc := 20) dX3_sheet_20

theorem C_m_sheet (l : Launch) (p1 : Int32) (p2 : Int32) (p3 : Int32) (p4 : Int32) (M : PM) : Ctr l Sh yX3_sheet cX3_sheet 9 (some .int) 2 rvI [.ref 72, .int p1, .int p2, .int p3, .int p4] M (m_sheet p1 p2 p3 p4 M) := Ctr.of (by decide +kernel) (Nat.le_of_ble_eq_true rfl) (fun G => t_m_sheet G p1 p2 p3 p4 M)

abbrev T_m_tell (G : JG) (M : PM) (pc : Nat) (L : List (Option Value)) (S : List Value) (o : Option (Unit × PM)) : Prop := JJ G cX3_tell yX3_tell 3 1 none Sh (finR G Sh rvU) M pc L S o
def m_tell (p1 : Int64) (M : PM) : Option (Unit × PM) :=
    ck (M.i 72 12) 20 <|
    lt (M.sl 79 (ix (M.i 72 12)) p1) fun M1 =>
    lt (M1.si 72 12 ((M1.i 72 12) + 1)) fun M2 =>
    some ((), M2)

set_option maxHeartbeats 4000000 in
theorem t_m_tell (G : JG) (p1 : Int64) (M : PM) : T_m_tell G  M 0 (ent [.ref 72, .long p1] 3) [] (m_tell p1 M) := by
  unfold m_tell
  refine J_aload_n (pc := 0) dX3_tell_0 rfl ?_
  refine J_get (pc := 1) (c := 2) (.ref 79) rfl in_X3 11 (by decide) q1118 rfl (fun h => sh_k1 h 52 rfl) (fun h _ => fv_ref (Or.inr ⟨_, rfl⟩) (sh_r h 57 rfl)) dX3_tell_1 ?_
  refine J_aload_n (pc := 4) dX3_tell_4 rfl ?_
  refine J_get (pc := 5) (c := 2) (.int (M.i 72 12)) rfl in_X3 12 (by decide) q1119 rfl (fun h => sh_k1 h 52 rfl) (fun _ _ => rfl) dX3_tell_5 ?_
  refine J_lload_n (pc := 8) dX3_tell_8 rfl ?_
  refine J_ck (fun h1 => ?_)
  refine J_last (pc := 9) (a := 79) (fun h => sh_a h 59 rfl h1) (fun h => Sh_sl h) dX3_tell_9 ?_
  refine J_ltM (fun M1 => ?_)
  refine J_aload_n (pc := 10) dX3_tell_10 rfl ?_
  refine J_dup (pc := 11) dX3_tell_11 rfl ?_
  refine J_get (pc := 12) (c := 2) (.int (M1.i 72 12)) rfl in_X3 12 (by decide) q1119 rfl (fun h => sh_k1 h 52 rfl) (fun _ _ => rfl) dX3_tell_12 ?_
  refine J_iconst (pc := 15) 1 dX3_tell_15 (by decide) ?_
  refine J_iadd (pc := 16) dX3_tell_16 ?_
  refine J_put (pc := 17) (a := 72) (v := .int ((M1.i 72 12) + 1)) (M' := M1.si 72 12 ((M1.i 72 12) + 1)) (c := 2) rfl in_X3 tyX3_ok fnX3 12 (by decide) q1119 rfl (Or.inl rfl) (fun h => sh_k1 h 52 rfl) (fun _ => rfl) (fun _ => rfl) ⟨⟨rfl, rfl⟩, rfl⟩ (fun _ hb => up2_same hb) (fun _ _ => rfl) (fun _ _ => rfl) (put_i (fun _ _ _ => rfl)) (fun h => Sh_si h) dX3_tell_17 ?_
  refine J_ltM (fun M2 => ?_)
  exact J_ret (pc := 20) dX3_tell_20

theorem C_m_tell (l : Launch) (p1 : Int64) (M : PM) : Ctr l Sh yX3_tell cX3_tell 3 none 1 rvU [.ref 72, .long p1] M (m_tell p1 M) := Ctr.of (by decide +kernel) (Nat.le_of_ble_eq_true rfl) (fun G => t_m_tell G p1 M)

abbrev T_m_tollOf (G : JG) (M : PM) (pc : Nat) (L : List (Option Value)) (S : List Value) (o : Option (Int32 × PM)) : Prop := JJ G cX3_tollOf yX3_tollOf 9 141 (some .int) Sh (finR G Sh rvI) M pc L S o
def m_tollOf_L9 (c1 : Int32) (c2 : Int32) (c3 : Int32) (c4 : Int32) (c5 : Int32) (k29 : PM → Option (Int32 × PM)) : Nat → Int32 → PM → Option (Int32 × PM)
  | 0, _, _ => none
  | n + 1, v1, M1 =>
    if 5 ≤ v1 then (k29 M1)
    else (ck v1 5 <|
    lt (M1.si 86 (ix v1) 0) fun M2 =>
    lt (v1 + 1) fun v2 =>
    m_tollOf_L9 c1 c2 c3 c4 c5 k29 n v2 M2)

set_option maxHeartbeats 4000000 in
theorem t_m_tollOf_L9 (G : JG) (c1 : Int32) (c2 : Int32) (c3 : Int32) (c4 : Int32) (c5 : Int32) (k29 : PM → Option (Int32 × PM)) (hk29 : ∀ Me, T_m_tollOf G  Me 29 [some (.ref 72), some (.int c1), some (.int c2), some (.int c3), some (.int c4), some (.int c5), none, none, none] [] (k29 Me)) : ∀ (n : Nat) (v1 : Int32) (M1 : PM), T_m_tollOf G  M1 9 [some (.ref 72), some (.int c1), some (.int c2), some (.int c3), some (.int c4), some (.int c5), some (.int v1), none, none] [] (m_tollOf_L9 c1 c2 c3 c4 c5 k29 n v1 M1) := by
  intro n
  induction n with
  | zero =>
    intro v1 M1
    exact J_none
  | succ n ih =>
    intro v1 M1
    rw [m_tollOf_L9]
    refine J_iload (pc := 9) dX3_tollOf_9 rfl ?_
    refine J_iconst (pc := 11) 5 dX3_tollOf_11 (by decide) ?_
    refine J_icmp_ge (pc := 12) 29 dX3_tollOf_12 rfl (fun h => if_pos h) (fun h => if_neg h) (fun _ => ?_) (fun _ => ?_)
    · exact J_sub (A := [some (.ref 72), some (.int c1), some (.int c2), some (.int c3), some (.int c4), some (.int c5), none, none, none]) ⟨rfl, ⟨rfl, ⟨rfl, ⟨rfl, ⟨rfl, ⟨rfl, trivial⟩⟩⟩⟩⟩⟩ (hk29 M1)
    · refine J_aload_n (pc := 15) dX3_tollOf_15 rfl ?_
      refine J_get (pc := 16) (c := 2) (.ref 86) rfl in_X3 27 (by decide) q1134 rfl (fun h => sh_k1 h 52 rfl) (fun h _ => fv_ref (Or.inr ⟨_, rfl⟩) (sh_r h 62 rfl)) dX3_tollOf_16 ?_
      refine J_iload (pc := 19) dX3_tollOf_19 rfl ?_
      refine J_iconst (pc := 21) 0 dX3_tollOf_21 (by decide) ?_
      refine J_ck (fun h1 => ?_)
      refine J_iast (pc := 22) (a := 86) (fun h => sh_a h 66 rfl h1) (fun h => Sh_si h) dX3_tollOf_22 ?_
      refine J_ltM (fun M2 => ?_)
      refine J_iincL (pc := 23) (n := 1) (by decide) dX3_tollOf_23 rfl (by decide) (fun v2 => ?_)
      refine J_goto (pc := 26) 9 dX3_tollOf_26 rfl ?_
      exact J_sub (A := [some (.ref 72), some (.int c1), some (.int c2), some (.int c3), some (.int c4), some (.int c5), some (.int v2), none, none]) ⟨rfl, ⟨rfl, ⟨rfl, ⟨rfl, ⟨rfl, ⟨rfl, ⟨rfl, trivial⟩⟩⟩⟩⟩⟩⟩ (ih v2 M2)

def m_tollOf_L32 (c1 : Int32) (c2 : Int32) (c3 : Int32) : Nat → Int32 → Int32 → Int32 → PM → Option (Int32 × PM)
  | 0, _, _, _, _ => none
  | n + 1, v3, v4, v5, M4 =>
    ck c1 10 <|
    if (M4.i 75 (ix c1)) ≤ v5 then (some (v4, M4))
    else (bd (m_letter c1 v5 M4) fun v6 M5 =>
    bd (m_vowelOf v6 M5) fun v7 M6 =>
    jn (fun (v8 : Int32) (v9 : Int32) (M7 : PM) =>
    lt (v5 + 1) fun v10 =>
    m_tollOf_L32 c1 c2 c3 n v8 v9 v10 M7) fun j1 =>
    if v7 = (-1) then (j1 v3 v4 M6)
    else (lt (v7 + 1) fun v11 =>
    jn (fun (v12 : Int32) (M8 : PM) =>
    lt (imax 0 (imin 99 v12)) fun v13 =>
    ck v7 5 <|
    ck v7 5 <|
    lt (M8.si 86 (ix v7) ((M8.i 86 (ix v7)) + v13)) fun M9 =>
    lt (v4 + v13) fun v14 =>
    lt (v3 + 1) fun v15 =>
    j1 v15 v14 M9) fun j2 =>
    if (M6.i 72 24) ≤ 0 then (j2 v11 M6)
    else (ck 0 7 <|
    lt (M6.si 85 (ix 0) v7) fun M10 =>
    ck 1 7 <|
    lt (M10.si 85 (ix 1) c2) fun M11 =>
    ckb (¬ (24 : Int32) = 0) <|
    ck 2 7 <|
    lt (M11.si 85 (ix 2) (c3 - c3 / 24 * 24)) fun M12 =>
    ck c1 10 <|
    ck 3 7 <|
    lt (M12.si 85 (ix 3) (M12.i 75 (ix c1))) fun M13 =>
    ck 4 7 <|
    lt (M13.si 85 (ix 4) v5) fun M14 =>
    ck 5 7 <|
    lt (M14.si 85 (ix 5) v3) fun M15 =>
    jn (fun (v16 : Int32) (M16 : PM) =>
    ck 6 7 <|
    lt (M16.si 85 (ix 6) v16) fun M17 =>
    lt (M17.r 72 22) fun r1 =>
    rf r1 fun a1 =>
    bd (m_begin a1 (M17.i 72 24) 40 M17) fun _ M18 =>
    lt (M18.si 72 25 1) fun M19 =>
    bd (m_held 0 M19) fun v17 M20 =>
    lt (M20.si 72 25 0) fun M21 =>
    j2 v17 M21) fun j3 =>
    if v5 ≤ 0 then (j3 0 M15)
    else (bd (m_letter c1 v5 M15) fun v18 M22 =>
    bd (m_letter c1 (v5 - 1) M22) fun v19 M23 =>
    if v18 = v19 then (j3 1 M23)
    else (j3 0 M23)))))

set_option maxHeartbeats 4000000 in
theorem t_m_tollOf_L32 (G : JG) (c1 : Int32) (c2 : Int32) (c3 : Int32) : ∀ (n : Nat) (v3 : Int32) (v4 : Int32) (v5 : Int32) (M4 : PM), T_m_tollOf G  M4 32 [some (.ref 72), some (.int c1), some (.int c2), some (.int c3), some (.int v3), some (.int v4), some (.int v5), none, none] [] (m_tollOf_L32 c1 c2 c3 n v3 v4 v5 M4) := by
  intro n
  induction n with
  | zero =>
    intro v3 v4 v5 M4
    exact J_none
  | succ n ih =>
    intro v3 v4 v5 M4
    rw [m_tollOf_L32]
    refine J_iload (pc := 32) dX3_tollOf_32 rfl ?_
    refine J_aload_n (pc := 34) dX3_tollOf_34 rfl ?_
    refine J_get (pc := 35) (c := 2) (.ref 75) rfl in_X3 4 (by decide) q1111 rfl (fun h => sh_k1 h 52 rfl) (fun h _ => fv_ref (Or.inr ⟨_, rfl⟩) (sh_r h 53 rfl)) dX3_tollOf_35 ?_
    refine J_iload_n (pc := 38) dX3_tollOf_38 rfl ?_
    refine J_ck (fun h2 => ?_)
    refine J_iald (pc := 39) (a := 75) (fun h => sh_a h 55 rfl h2) dX3_tollOf_39 ?_
    refine J_icmp_ge (pc := 40) 238 dX3_tollOf_40 rfl (fun h => if_pos h) (fun h => if_neg h) (fun _ => ?_) (fun _ => ?_)
    · refine J_iload (pc := 238) dX3_tollOf_238 rfl ?_
      exact J_iret (pc := 240) dX3_tollOf_240
    · refine J_aload_n (pc := 43) dX3_tollOf_43 rfl ?_
      refine J_iload_n (pc := 44) dX3_tollOf_44 rfl ?_
      refine J_iload (pc := 45) dX3_tollOf_45 rfl ?_
      refine J_callV (pc := 47) (n := 2) (b := 72) (vs := [.int c1, .int v5]) (ci := 2) (fun l => C_m_letter l c1 v5 M4) (lw_V q1399 q1401 qs80 q118 q1402) nmv_X3_letter rfl (by omega) (by decide) rfl (fun h => sh_k1 h 52 rfl) rfl (Nat.le_of_ble_eq_true rfl) dX3_tollOf_47 (fun v6 M5 => ?_)
      refine J_callS (pc := 50) (n := 1) (vs := [.int v6]) (fun l => C_m_vowelOf l v6 M5) (lw_S q1403 q1404 q118 q1405) nmh_X3_vowelOf rfl (by omega) (by decide) rfl (Nat.le_of_ble_eq_true rfl) dX3_tollOf_50 (fun v7 M6 => ?_)
      refine J_istore (pc := 53) dX3_tollOf_53 (by decide) ?_
      refine J_iload (pc := 55) dX3_tollOf_55 rfl ?_
      refine J_iconst (pc := 57) (-1) dX3_tollOf_57 (by decide) ?_
      refine J_jn (P := fun J => ∀ (v8 : Int32) (v9 : Int32) (M7 : PM), T_m_tollOf G  M7 232 [some (.ref 72), some (.int c1), some (.int c2), some (.int c3), some (.int v8), some (.int v9), some (.int v5), none, none] [] (J v8 v9 M7)) (fun v8 v9 M7 => ?_) (fun j1 hj1 => ?_)
      · refine J_iincL (pc := 232) (n := 1) (by decide) dX3_tollOf_232 rfl (by decide) (fun v10 => ?_)
        refine J_goto (pc := 235) 32 dX3_tollOf_235 rfl ?_
        exact J_sub (A := [some (.ref 72), some (.int c1), some (.int c2), some (.int c3), some (.int v8), some (.int v9), some (.int v10), none, none]) ⟨rfl, ⟨rfl, ⟨rfl, ⟨rfl, ⟨rfl, ⟨rfl, ⟨rfl, trivial⟩⟩⟩⟩⟩⟩⟩ (ih v8 v9 v10 M7)
      refine J_icmp_ne (pc := 58) 64 dX3_tollOf_58 rfl (fun h => if_neg h) (fun h => if_pos h) (fun _ => ?_) (fun _ => ?_)
      · refine J_iload (pc := 64) dX3_tollOf_64 rfl ?_
        refine J_iconst (pc := 66) 1 dX3_tollOf_66 (by decide) ?_
        refine J_iadd (pc := 67) dX3_tollOf_67 ?_
        refine J_lt (β := Int32) (v := (v7 + 1)) (L := fun _ => _) (S := fun v11 => [.int v11]) (fun v11 => ?_)
        refine J_istore (pc := 68) dX3_tollOf_68 (by decide) ?_
        refine J_aload_n (pc := 70) dX3_tollOf_70 rfl ?_
        refine J_get (pc := 71) (c := 2) (.int (M6.i 72 24)) rfl in_X3 24 (by decide) q1131 rfl (fun h => sh_k1 h 52 rfl) (fun _ _ => rfl) dX3_tollOf_71 ?_
        refine J_jn (P := fun J => ∀ (v12 : Int32) (M8 : PM), T_m_tollOf G  M8 197 [some (.ref 72), some (.int c1), some (.int c2), some (.int c3), some (.int v3), some (.int v4), some (.int v5), some (.int v7), some (.int v12)] [] (J v12 M8)) (fun v12 M8 => ?_) (fun j2 hj2 => ?_)
        · refine J_iconst (pc := 197) 0 dX3_tollOf_197 (by decide) ?_
          refine J_bipush (pc := 198) 99 dX3_tollOf_198 (by decide) ?_
          refine J_iload (pc := 200) dX3_tollOf_200 rfl ?_
          refine J_min (pc := 202) (by omega) q1441 q410 q119 q411 (Nat.le_of_ble_eq_true rfl) dX3_tollOf_202 ?_
          refine J_max (pc := 205) (by omega) q1442 q454 q119 q455 (Nat.le_of_ble_eq_true rfl) dX3_tollOf_205 ?_
          refine J_lt (β := Int32) (v := (imax 0 (imin 99 v12))) (L := fun _ => _) (S := fun v13 => [.int v13]) (fun v13 => ?_)
          refine J_istore (pc := 208) dX3_tollOf_208 (by decide) ?_
          refine J_aload_n (pc := 210) dX3_tollOf_210 rfl ?_
          refine J_get (pc := 211) (c := 2) (.ref 86) rfl in_X3 27 (by decide) q1134 rfl (fun h => sh_k1 h 52 rfl) (fun h _ => fv_ref (Or.inr ⟨_, rfl⟩) (sh_r h 62 rfl)) dX3_tollOf_211 ?_
          refine J_iload (pc := 214) dX3_tollOf_214 rfl ?_
          refine J_dup2 (pc := 216) dX3_tollOf_216 rfl rfl ?_
          refine J_ck (fun h3 => ?_)
          refine J_iald (pc := 217) (a := 86) (fun h => sh_a h 66 rfl h3) dX3_tollOf_217 ?_
          refine J_iload (pc := 218) dX3_tollOf_218 rfl ?_
          refine J_iadd (pc := 220) dX3_tollOf_220 ?_
          refine J_ck (fun h4 => ?_)
          refine J_iast (pc := 221) (a := 86) (fun h => sh_a h 66 rfl h4) (fun h => Sh_si h) dX3_tollOf_221 ?_
          refine J_ltM (fun M9 => ?_)
          refine J_iload (pc := 222) dX3_tollOf_222 rfl ?_
          refine J_iload (pc := 224) dX3_tollOf_224 rfl ?_
          refine J_iadd (pc := 226) dX3_tollOf_226 ?_
          refine J_lt (β := Int32) (v := (v4 + v13)) (L := fun _ => _) (S := fun v14 => [.int v14]) (fun v14 => ?_)
          refine J_istore (pc := 227) dX3_tollOf_227 (by decide) ?_
          refine J_iincL (pc := 229) (n := 1) (by decide) dX3_tollOf_229 rfl (by decide) (fun v15 => ?_)
          exact J_sub (A := [some (.ref 72), some (.int c1), some (.int c2), some (.int c3), some (.int v15), some (.int v14), some (.int v5), none, none]) ⟨rfl, ⟨rfl, ⟨rfl, ⟨rfl, ⟨rfl, ⟨rfl, ⟨rfl, trivial⟩⟩⟩⟩⟩⟩⟩ (hj1 v15 v14 M9)
        refine J_if_le (pc := 74) 197 dX3_tollOf_74 rfl (fun h => if_pos h) (fun h => if_neg h) (fun _ => ?_) (fun _ => ?_)
        · exact J_sub (A := [some (.ref 72), some (.int c1), some (.int c2), some (.int c3), some (.int v3), some (.int v4), some (.int v5), some (.int v7), some (.int v11)]) ⟨rfl, ⟨rfl, ⟨rfl, ⟨rfl, ⟨rfl, ⟨rfl, ⟨rfl, ⟨rfl, ⟨rfl, trivial⟩⟩⟩⟩⟩⟩⟩⟩⟩ (hj2 v11 M6)
        · refine J_aload_n (pc := 77) dX3_tollOf_77 rfl ?_
          refine J_get (pc := 78) (c := 2) (.ref 85) rfl in_X3 26 (by decide) q1133 rfl (fun h => sh_k1 h 52 rfl) (fun h _ => fv_ref (Or.inr ⟨_, rfl⟩) (sh_r h 61 rfl)) dX3_tollOf_78 ?_
          refine J_iconst (pc := 81) 0 dX3_tollOf_81 (by decide) ?_
          refine J_iload (pc := 82) dX3_tollOf_82 rfl ?_
          refine J_ck (fun h5 => ?_)
          refine J_iast (pc := 84) (a := 85) (fun h => sh_a h 65 rfl h5) (fun h => Sh_si h) dX3_tollOf_84 ?_
          refine J_ltM (fun M10 => ?_)
          refine J_aload_n (pc := 85) dX3_tollOf_85 rfl ?_
          refine J_get (pc := 86) (c := 2) (.ref 85) rfl in_X3 26 (by decide) q1133 rfl (fun h => sh_k1 h 52 rfl) (fun h _ => fv_ref (Or.inr ⟨_, rfl⟩) (sh_r h 61 rfl)) dX3_tollOf_86 ?_
          refine J_iconst (pc := 89) 1 dX3_tollOf_89 (by decide) ?_
          refine J_iload_n (pc := 90) dX3_tollOf_90 rfl ?_
          refine J_ck (fun h6 => ?_)
          refine J_iast (pc := 91) (a := 85) (fun h => sh_a h 65 rfl h6) (fun h => Sh_si h) dX3_tollOf_91 ?_
          refine J_ltM (fun M11 => ?_)
          refine J_aload_n (pc := 92) dX3_tollOf_92 rfl ?_
          refine J_get (pc := 93) (c := 2) (.ref 85) rfl in_X3 26 (by decide) q1133 rfl (fun h => sh_k1 h 52 rfl) (fun h _ => fv_ref (Or.inr ⟨_, rfl⟩) (sh_r h 61 rfl)) dX3_tollOf_93 ?_
          refine J_iconst (pc := 96) 2 dX3_tollOf_96 (by decide) ?_
          refine J_iload_n (pc := 97) dX3_tollOf_97 rfl ?_
          refine J_bipush (pc := 98) 24 dX3_tollOf_98 (by decide) ?_
          refine J_ckb (fun h7 => ?_)
          refine J_irem (pc := 100) dX3_tollOf_100 h7 ?_
          refine J_ck (fun h8 => ?_)
          refine J_iast (pc := 101) (a := 85) (fun h => sh_a h 65 rfl h8) (fun h => Sh_si h) dX3_tollOf_101 ?_
          refine J_ltM (fun M12 => ?_)
          refine J_aload_n (pc := 102) dX3_tollOf_102 rfl ?_
          refine J_get (pc := 103) (c := 2) (.ref 85) rfl in_X3 26 (by decide) q1133 rfl (fun h => sh_k1 h 52 rfl) (fun h _ => fv_ref (Or.inr ⟨_, rfl⟩) (sh_r h 61 rfl)) dX3_tollOf_103 ?_
          refine J_iconst (pc := 106) 3 dX3_tollOf_106 (by decide) ?_
          refine J_aload_n (pc := 107) dX3_tollOf_107 rfl ?_
          refine J_get (pc := 108) (c := 2) (.ref 75) rfl in_X3 4 (by decide) q1111 rfl (fun h => sh_k1 h 52 rfl) (fun h _ => fv_ref (Or.inr ⟨_, rfl⟩) (sh_r h 53 rfl)) dX3_tollOf_108 ?_
          refine J_iload_n (pc := 111) dX3_tollOf_111 rfl ?_
          refine J_ck (fun h9 => ?_)
          refine J_iald (pc := 112) (a := 75) (fun h => sh_a h 55 rfl h9) dX3_tollOf_112 ?_
          refine J_ck (fun h10 => ?_)
          refine J_iast (pc := 113) (a := 85) (fun h => sh_a h 65 rfl h10) (fun h => Sh_si h) dX3_tollOf_113 ?_
          refine J_ltM (fun M13 => ?_)
          refine J_aload_n (pc := 114) dX3_tollOf_114 rfl ?_
          refine J_get (pc := 115) (c := 2) (.ref 85) rfl in_X3 26 (by decide) q1133 rfl (fun h => sh_k1 h 52 rfl) (fun h _ => fv_ref (Or.inr ⟨_, rfl⟩) (sh_r h 61 rfl)) dX3_tollOf_115 ?_
          refine J_iconst (pc := 118) 4 dX3_tollOf_118 (by decide) ?_
          refine J_iload (pc := 119) dX3_tollOf_119 rfl ?_
          refine J_ck (fun h11 => ?_)
          refine J_iast (pc := 121) (a := 85) (fun h => sh_a h 65 rfl h11) (fun h => Sh_si h) dX3_tollOf_121 ?_
          refine J_ltM (fun M14 => ?_)
          refine J_aload_n (pc := 122) dX3_tollOf_122 rfl ?_
          refine J_get (pc := 123) (c := 2) (.ref 85) rfl in_X3 26 (by decide) q1133 rfl (fun h => sh_k1 h 52 rfl) (fun h _ => fv_ref (Or.inr ⟨_, rfl⟩) (sh_r h 61 rfl)) dX3_tollOf_123 ?_
          refine J_iconst (pc := 126) 5 dX3_tollOf_126 (by decide) ?_
          refine J_iload (pc := 127) dX3_tollOf_127 rfl ?_
          refine J_ck (fun h12 => ?_)
          refine J_iast (pc := 129) (a := 85) (fun h => sh_a h 65 rfl h12) (fun h => Sh_si h) dX3_tollOf_129 ?_
          refine J_ltM (fun M15 => ?_)
          refine J_aload_n (pc := 130) dX3_tollOf_130 rfl ?_
          refine J_get (pc := 131) (c := 2) (.ref 85) rfl in_X3 26 (by decide) q1133 rfl (fun h => sh_k1 h 52 rfl) (fun h _ => fv_ref (Or.inr ⟨_, rfl⟩) (sh_r h 61 rfl)) dX3_tollOf_131 ?_
          refine J_bipush (pc := 134) 6 dX3_tollOf_134 (by decide) ?_
          refine J_iload (pc := 136) dX3_tollOf_136 rfl ?_
          refine J_jn (P := fun J => ∀ (v16 : Int32) (M16 : PM), T_m_tollOf G  M16 165 [some (.ref 72), some (.int c1), some (.int c2), some (.int c3), some (.int v3), some (.int v4), some (.int v5), some (.int v7), none] [.int v16, .int 6, .ref 85] (J v16 M16)) (fun v16 M16 => ?_) (fun j3 hj3 => ?_)
          · refine J_ck (fun h13 => ?_)
            refine J_iast (pc := 165) (a := 85) (fun h => sh_a h 65 rfl h13) (fun h => Sh_si h) dX3_tollOf_165 ?_
            refine J_ltM (fun M17 => ?_)
            refine J_aload_n (pc := 166) dX3_tollOf_166 rfl ?_
            refine J_aload_n (pc := 167) dX3_tollOf_167 rfl ?_
            refine J_getO (pc := 168) (c := 2) rfl in_X3 22 (by decide) q1129 rfl (fun h => sh_k1 h 52 rfl) (fun _ _ => fv_rf (Or.inr ⟨_, rfl⟩)) dX3_tollOf_168 (fun r1 => ?_)
            refine J_aload_n (pc := 171) dX3_tollOf_171 rfl ?_
            refine J_get (pc := 172) (c := 2) (.int (M17.i 72 24)) rfl in_X3 24 (by decide) q1131 rfl (fun h => sh_k1 h 52 rfl) (fun _ _ => rfl) dX3_tollOf_172 ?_
            refine J_bipush (pc := 175) 40 dX3_tollOf_175 (by decide) ?_
            refine J_rfe (fun a1 ea1 => ?_)
            subst ea1
            refine J_callV (pc := 177) (n := 3) (b := 72) (vs := [.ref a1, .int (M17.i 72 24), .int 40]) (ci := 2) (fun l => C_m_begin l a1 (M17.i 72 24) 40 M17) (lw_V q1304 q1306 qs61 q118 q1307) nmv_X3_begin rfl (by omega) (by decide) rfl (fun h => sh_k1 h 52 rfl) rfl (Nat.le_of_ble_eq_true rfl) dX3_tollOf_177 (fun _ M18 => ?_)
            refine J_aload_n (pc := 180) dX3_tollOf_180 rfl ?_
            refine J_iconst (pc := 181) 1 dX3_tollOf_181 (by decide) ?_
            refine J_put (pc := 182) (a := 72) (v := .int 1) (M' := M18.si 72 25 1) (c := 2) rfl in_X3 tyX3_ok fnX3 25 (by decide) q1132 rfl (Or.inl rfl) (fun h => sh_k1 h 52 rfl) (fun _ => rfl) (fun _ => rfl) ⟨⟨rfl, rfl⟩, rfl⟩ (fun _ hb => up2_same hb) (fun _ _ => rfl) (fun _ _ => rfl) (put_i (fun _ _ _ => rfl)) (fun h => Sh_si h) dX3_tollOf_182 ?_
            refine J_ltM (fun M19 => ?_)
            refine J_aload_n (pc := 185) dX3_tollOf_185 rfl ?_
            refine J_iconst (pc := 186) 0 dX3_tollOf_186 (by decide) ?_
            refine J_callV (pc := 187) (n := 1) (b := 72) (vs := [.int 0]) (ci := 2) (fun l => C_m_held l 0 M19) (lw_V q1360 q1362 qs72 q118 q1363) nmv_X3_held rfl (by omega) (by decide) rfl (fun h => sh_k1 h 52 rfl) rfl (Nat.le_of_ble_eq_true rfl) dX3_tollOf_187 (fun v17 M20 => ?_)
            refine J_istore (pc := 190) dX3_tollOf_190 (by decide) ?_
            refine J_aload_n (pc := 192) dX3_tollOf_192 rfl ?_
            refine J_iconst (pc := 193) 0 dX3_tollOf_193 (by decide) ?_
            refine J_put (pc := 194) (a := 72) (v := .int 0) (M' := M20.si 72 25 0) (c := 2) rfl in_X3 tyX3_ok fnX3 25 (by decide) q1132 rfl (Or.inl rfl) (fun h => sh_k1 h 52 rfl) (fun _ => rfl) (fun _ => rfl) ⟨⟨rfl, rfl⟩, rfl⟩ (fun _ hb => up2_same hb) (fun _ _ => rfl) (fun _ _ => rfl) (put_i (fun _ _ _ => rfl)) (fun h => Sh_si h) dX3_tollOf_194 ?_
            refine J_ltM (fun M21 => ?_)
            exact J_sub (A := [some (.ref 72), some (.int c1), some (.int c2), some (.int c3), some (.int v3), some (.int v4), some (.int v5), some (.int v7), some (.int v17)]) ⟨rfl, ⟨rfl, ⟨rfl, ⟨rfl, ⟨rfl, ⟨rfl, ⟨rfl, ⟨rfl, ⟨rfl, trivial⟩⟩⟩⟩⟩⟩⟩⟩⟩ (hj2 v17 M21)
          refine J_if_le (pc := 138) 164 dX3_tollOf_138 rfl (fun h => if_pos h) (fun h => if_neg h) (fun _ => ?_) (fun _ => ?_)
          · refine J_iconst (pc := 164) 0 dX3_tollOf_164 (by decide) ?_
            exact J_sub (A := [some (.ref 72), some (.int c1), some (.int c2), some (.int c3), some (.int v3), some (.int v4), some (.int v5), some (.int v7), none]) ⟨rfl, ⟨rfl, ⟨rfl, ⟨rfl, ⟨rfl, ⟨rfl, ⟨rfl, ⟨rfl, trivial⟩⟩⟩⟩⟩⟩⟩⟩ (hj3 0 M15)
          · refine J_aload_n (pc := 141) dX3_tollOf_141 rfl ?_
            refine J_iload_n (pc := 142) dX3_tollOf_142 rfl ?_
            refine J_iload (pc := 143) dX3_tollOf_143 rfl ?_
            refine J_callV (pc := 145) (n := 2) (b := 72) (vs := [.int c1, .int v5]) (ci := 2) (fun l => C_m_letter l c1 v5 M15) (lw_V q1399 q1401 qs80 q118 q1402) nmv_X3_letter rfl (by omega) (by decide) rfl (fun h => sh_k1 h 52 rfl) rfl (Nat.le_of_ble_eq_true rfl) dX3_tollOf_145 (fun v18 M22 => ?_)
            refine J_aload_n (pc := 148) dX3_tollOf_148 rfl ?_
            refine J_iload_n (pc := 149) dX3_tollOf_149 rfl ?_
            refine J_iload (pc := 150) dX3_tollOf_150 rfl ?_
            refine J_iconst (pc := 152) 1 dX3_tollOf_152 (by decide) ?_
            refine J_isub (pc := 153) dX3_tollOf_153 ?_
            refine J_callV (pc := 154) (n := 2) (b := 72) (vs := [.int c1, .int (v5 - 1)]) (ci := 2) (fun l => C_m_letter l c1 (v5 - 1) M22) (lw_V q1399 q1401 qs80 q118 q1402) nmv_X3_letter rfl (by omega) (by decide) rfl (fun h => sh_k1 h 52 rfl) rfl (Nat.le_of_ble_eq_true rfl) dX3_tollOf_154 (fun v19 M23 => ?_)
            refine J_icmp_ne (pc := 157) 164 dX3_tollOf_157 rfl (fun h => if_neg h) (fun h => if_pos h) (fun _ => ?_) (fun _ => ?_)
            · refine J_iconst (pc := 164) 0 dX3_tollOf_164 (by decide) ?_
              exact J_sub (A := [some (.ref 72), some (.int c1), some (.int c2), some (.int c3), some (.int v3), some (.int v4), some (.int v5), some (.int v7), none]) ⟨rfl, ⟨rfl, ⟨rfl, ⟨rfl, ⟨rfl, ⟨rfl, ⟨rfl, ⟨rfl, trivial⟩⟩⟩⟩⟩⟩⟩⟩ (hj3 0 M23)
            · refine J_iconst (pc := 160) 1 dX3_tollOf_160 (by decide) ?_
              refine J_goto (pc := 161) 165 dX3_tollOf_161 rfl ?_
              exact J_sub (A := [some (.ref 72), some (.int c1), some (.int c2), some (.int c3), some (.int v3), some (.int v4), some (.int v5), some (.int v7), none]) ⟨rfl, ⟨rfl, ⟨rfl, ⟨rfl, ⟨rfl, ⟨rfl, ⟨rfl, ⟨rfl, trivial⟩⟩⟩⟩⟩⟩⟩⟩ (hj3 1 M23)
      · refine J_goto (pc := 61) 232 dX3_tollOf_61 rfl ?_
        exact J_sub (A := [some (.ref 72), some (.int c1), some (.int c2), some (.int c3), some (.int v3), some (.int v4), some (.int v5), none, none]) ⟨rfl, ⟨rfl, ⟨rfl, ⟨rfl, ⟨rfl, ⟨rfl, ⟨rfl, trivial⟩⟩⟩⟩⟩⟩⟩ (hj1 v3 v4 M6)

def m_tollOf (p1 : Int32) (p2 : Int32) (p3 : Int32) (M : PM) : Option (Int32 × PM) :=
    m_tollOf_L9 p1 p2 p3 0 0 (fun (M3 : PM) =>
    m_tollOf_L32 p1 p2 p3 FU 0 0 0 M3) FU 0 M

set_option maxHeartbeats 4000000 in
theorem t_m_tollOf (G : JG) (p1 : Int32) (p2 : Int32) (p3 : Int32) (M : PM) : T_m_tollOf G  M 0 (ent [.ref 72, .int p1, .int p2, .int p3] 9) [] (m_tollOf p1 p2 p3 M) := by
  unfold m_tollOf
  refine J_iconst (pc := 0) 0 dX3_tollOf_0 (by decide) ?_
  refine J_istore (pc := 1) dX3_tollOf_1 (by decide) ?_
  refine J_iconst (pc := 3) 0 dX3_tollOf_3 (by decide) ?_
  refine J_istore (pc := 4) dX3_tollOf_4 (by decide) ?_
  refine J_iconst (pc := 6) 0 dX3_tollOf_6 (by decide) ?_
  refine J_istore (pc := 7) dX3_tollOf_7 (by decide) ?_
  refine J_sub (A := [some (.ref 72), some (.int p1), some (.int p2), some (.int p3), some (.int 0), some (.int 0), some (.int 0), none, none]) ⟨rfl, ⟨rfl, ⟨rfl, ⟨rfl, ⟨rfl, ⟨rfl, ⟨rfl, trivial⟩⟩⟩⟩⟩⟩⟩ (t_m_tollOf_L9 G p1 p2 p3 0 0 _ ?_ FU 0 M)
  · intro M3
    refine J_iconst (pc := 29) 0 dX3_tollOf_29 (by decide) ?_
    refine J_istore (pc := 30) dX3_tollOf_30 (by decide) ?_
    refine J_sub (A := [some (.ref 72), some (.int p1), some (.int p2), some (.int p3), some (.int 0), some (.int 0), some (.int 0), none, none]) ⟨rfl, ⟨rfl, ⟨rfl, ⟨rfl, ⟨rfl, ⟨rfl, ⟨rfl, trivial⟩⟩⟩⟩⟩⟩⟩ (t_m_tollOf_L32 G p1 p2 p3  FU 0 0 0 M3)

theorem C_m_tollOf (l : Launch) (p1 : Int32) (p2 : Int32) (p3 : Int32) (M : PM) : Ctr l Sh yX3_tollOf cX3_tollOf 9 (some .int) 141 rvI [.ref 72, .int p1, .int p2, .int p3] M (m_tollOf p1 p2 p3 M) := Ctr.of (by decide +kernel) (Nat.le_of_ble_eq_true rfl) (fun G => t_m_tollOf G p1 p2 p3 M)

abbrev T_m_tollNow (G : JG) (M : PM) (pc : Nat) (L : List (Option Value)) (S : List Value) (o : Option (Int32 × PM)) : Prop := JJ G cX3_tollNow yX3_tollNow 3 142 (some .int) Sh (finR G Sh rvI) M pc L S o
def m_tollNow (p1 : Int32) (p2 : Int32) (M : PM) : Option (Int32 × PM) :=
    ck 12 44 <|
    bd (m_tollOf p1 p2 (M.i 73 (ix 12)) M) fun v1 M1 =>
    some (v1, M1)

set_option maxHeartbeats 4000000 in
theorem t_m_tollNow (G : JG) (p1 : Int32) (p2 : Int32) (M : PM) : T_m_tollNow G  M 0 (ent [.ref 72, .int p1, .int p2] 3) [] (m_tollNow p1 p2 M) := by
  unfold m_tollNow
  refine J_aload_n (pc := 0) dX3_tollNow_0 rfl ?_
  refine J_iload_n (pc := 1) dX3_tollNow_1 rfl ?_
  refine J_iload_n (pc := 2) dX3_tollNow_2 rfl ?_
  refine J_aload_n (pc := 3) dX3_tollNow_3 rfl ?_
  refine J_get (pc := 4) (c := 2) (.ref 73) rfl in_X3 0 (by decide) q1107 rfl (fun h => sh_k1 h 52 rfl) (fun h _ => fv_ref (Or.inr ⟨_, rfl⟩) (sh_r h 51 rfl)) dX3_tollNow_4 ?_
  refine J_bipush (pc := 7) 12 dX3_tollNow_7 (by decide) ?_
  refine J_ck (fun h1 => ?_)
  refine J_iald (pc := 9) (a := 73) (fun h => sh_a h 53 rfl h1) dX3_tollNow_9 ?_
  refine J_callV (pc := 10) (n := 3) (b := 72) (vs := [.int p1, .int p2, .int (M.i 73 (ix 12))]) (ci := 2) (fun l => C_m_tollOf l p1 p2 (M.i 73 (ix 12)) M) (lw_V q1451 q1453 qs86 q118 q1454) nmv_X3_tollOf rfl (by omega) (by decide) rfl (fun h => sh_k1 h 52 rfl) rfl (Nat.le_of_ble_eq_true rfl) dX3_tollNow_10 (fun v1 M1 => ?_)
  exact J_iret (pc := 13) dX3_tollNow_13

theorem C_m_tollNow (l : Launch) (p1 : Int32) (p2 : Int32) (M : PM) : Ctr l Sh yX3_tollNow cX3_tollNow 3 (some .int) 142 rvI [.ref 72, .int p1, .int p2] M (m_tollNow p1 p2 M) := Ctr.of (by decide +kernel) (Nat.le_of_ble_eq_true rfl) (fun G => t_m_tollNow G p1 p2 M)

abbrev T_m_toll (G : JG) (M : PM) (pc : Nat) (L : List (Option Value)) (S : List Value) (o : Option (Int32 × PM)) : Prop := JJ G cX3_toll yX3_toll 5 143 (some .int) Sh (finR G Sh rvI) M pc L S o
def m_toll_L38 (c3 : Int32) : Nat → Int32 → PM → Option (Int32 × PM)
  | 0, _, _ => none
  | n + 1, v4, M6 =>
    if 5 ≤ v4 then (some (c3, M6))
    else (ck v4 5 <|
    bd (m_tell (Int32.toInt64 (M6.i 86 (ix v4))) M6) fun _ M7 =>
    lt (v4 + 1) fun v5 =>
    m_toll_L38 c3 n v5 M7)

set_option maxHeartbeats 4000000 in
theorem t_m_toll_L38 (G : JG) (c3 : Int32) : ∀ (n : Nat) (v4 : Int32) (M6 : PM), T_m_toll G  M6 38 [some (.ref 72), none, none, some (.int c3), some (.int v4)] [] (m_toll_L38 c3 n v4 M6) := by
  intro n
  induction n with
  | zero =>
    intro v4 M6
    exact J_none
  | succ n ih =>
    intro v4 M6
    rw [m_toll_L38]
    refine J_iload (pc := 38) dX3_toll_38 rfl ?_
    refine J_iconst (pc := 40) 5 dX3_toll_40 (by decide) ?_
    refine J_icmp_ge (pc := 41) 62 dX3_toll_41 rfl (fun h => if_pos h) (fun h => if_neg h) (fun _ => ?_) (fun _ => ?_)
    · refine J_iload_n (pc := 62) dX3_toll_62 rfl ?_
      exact J_iret (pc := 63) dX3_toll_63
    · refine J_aload_n (pc := 44) dX3_toll_44 rfl ?_
      refine J_aload_n (pc := 45) dX3_toll_45 rfl ?_
      refine J_get (pc := 46) (c := 2) (.ref 86) rfl in_X3 27 (by decide) q1134 rfl (fun h => sh_k1 h 52 rfl) (fun h _ => fv_ref (Or.inr ⟨_, rfl⟩) (sh_r h 62 rfl)) dX3_toll_46 ?_
      refine J_iload (pc := 49) dX3_toll_49 rfl ?_
      refine J_ck (fun h1 => ?_)
      refine J_iald (pc := 51) (a := 86) (fun h => sh_a h 66 rfl h1) dX3_toll_51 ?_
      refine J_i2l (pc := 52) dX3_toll_52 ?_
      refine J_callV (pc := 53) (n := 1) (b := 72) (vs := [.long (Int32.toInt64 (M6.i 86 (ix v4)))]) (ci := 2) (fun l => C_m_tell l (Int32.toInt64 (M6.i 86 (ix v4))) M6) (lw_V q1455 q1457 qs87 q118 q1458) nmv_X3_tell rfl (by omega) (by decide) rfl (fun h => sh_k1 h 52 rfl) rfl (Nat.le_of_ble_eq_true rfl) dX3_toll_53 (fun _ M7 => ?_)
      refine J_iincL (pc := 56) (n := 1) (by decide) dX3_toll_56 rfl (by decide) (fun v5 => ?_)
      refine J_goto (pc := 59) 38 dX3_toll_59 rfl ?_
      exact J_sub (A := [some (.ref 72), none, none, some (.int c3), some (.int v5)]) ⟨rfl, ⟨rfl, ⟨rfl, trivial⟩⟩⟩ (ih v5 M7)

def m_toll (p1 : Int32) (p2 : Int32) (M : PM) : Option (Int32 × PM) :=
    lt (M.si 72 13 0) fun M1 =>
    bd (m_isWord p1 M1) fun v1 M2 =>
    if v1 = 0 then (some ((-1), M2))
    else (bd (m_isStation p2 M2) fun v2 M3 =>
    if v2 = 0 then (some ((-1), M3))
    else (bd (m_tollNow p1 p2 M3) fun v3 M4 =>
    lt (M4.si 72 12 0) fun M5 =>
    m_toll_L38 v3 FU 0 M5))

set_option maxHeartbeats 4000000 in
theorem t_m_toll (G : JG) (p1 : Int32) (p2 : Int32) (M : PM) : T_m_toll G  M 0 (ent [.ref 72, .int p1, .int p2] 5) [] (m_toll p1 p2 M) := by
  unfold m_toll
  refine J_aload_n (pc := 0) dX3_toll_0 rfl ?_
  refine J_iconst (pc := 1) 0 dX3_toll_1 (by decide) ?_
  refine J_put (pc := 2) (a := 72) (v := .int 0) (M' := M.si 72 13 0) (c := 2) rfl in_X3 tyX3_ok fnX3 13 (by decide) q1120 rfl (Or.inl rfl) (fun h => sh_k1 h 52 rfl) (fun _ => rfl) (fun _ => rfl) ⟨⟨rfl, rfl⟩, rfl⟩ (fun _ hb => up2_same hb) (fun _ _ => rfl) (fun _ _ => rfl) (put_i (fun _ _ _ => rfl)) (fun h => Sh_si h) dX3_toll_2 ?_
  refine J_ltM (fun M1 => ?_)
  refine J_aload_n (pc := 5) dX3_toll_5 rfl ?_
  refine J_iload_n (pc := 6) dX3_toll_6 rfl ?_
  refine J_callV (pc := 7) (n := 1) (b := 72) (vs := [.int p1]) (ci := 2) (fun l => C_m_isWord l p1 M1) (lw_V q1383 q1385 qs76 q118 q1386) nmv_X3_isWord rfl (by omega) (by decide) rfl (fun h => sh_k1 h 52 rfl) rfl (Nat.le_of_ble_eq_true rfl) dX3_toll_7 (fun v1 M2 => ?_)
  refine J_if_eq (pc := 10) 21 dX3_toll_10 rfl (fun h => if_pos h) (fun h => if_neg h) (fun _ => ?_) (fun _ => ?_)
  · refine J_iconst (pc := 21) (-1) dX3_toll_21 (by decide) ?_
    exact J_iret (pc := 22) dX3_toll_22
  · refine J_aload_n (pc := 13) dX3_toll_13 rfl ?_
    refine J_iload_n (pc := 14) dX3_toll_14 rfl ?_
    refine J_callV (pc := 15) (n := 1) (b := 72) (vs := [.int p2]) (ci := 2) (fun l => C_m_isStation l p2 M2) (lw_V q1433 q1435 qs84 q118 q1436) nmv_X3_isStation rfl (by omega) (by decide) rfl (fun h => sh_k1 h 52 rfl) rfl (Nat.le_of_ble_eq_true rfl) dX3_toll_15 (fun v2 M3 => ?_)
    refine J_if_ne (pc := 18) 23 dX3_toll_18 rfl (fun h => if_neg h) (fun h => if_pos h) (fun _ => ?_) (fun _ => ?_)
    · refine J_aload_n (pc := 23) dX3_toll_23 rfl ?_
      refine J_iload_n (pc := 24) dX3_toll_24 rfl ?_
      refine J_iload_n (pc := 25) dX3_toll_25 rfl ?_
      refine J_callV (pc := 26) (n := 2) (b := 72) (vs := [.int p1, .int p2]) (ci := 2) (fun l => C_m_tollNow l p1 p2 M3) (lw_V q1447 q1449 qs85 q118 q1450) nmv_X3_tollNow rfl (by omega) (by decide) rfl (fun h => sh_k1 h 52 rfl) rfl (Nat.le_of_ble_eq_true rfl) dX3_toll_26 (fun v3 M4 => ?_)
      refine J_istore_n (pc := 29) dX3_toll_29 (by decide) ?_
      refine J_aload_n (pc := 30) dX3_toll_30 rfl ?_
      refine J_iconst (pc := 31) 0 dX3_toll_31 (by decide) ?_
      refine J_put (pc := 32) (a := 72) (v := .int 0) (M' := M4.si 72 12 0) (c := 2) rfl in_X3 tyX3_ok fnX3 12 (by decide) q1119 rfl (Or.inl rfl) (fun h => sh_k1 h 52 rfl) (fun _ => rfl) (fun _ => rfl) ⟨⟨rfl, rfl⟩, rfl⟩ (fun _ hb => up2_same hb) (fun _ _ => rfl) (fun _ _ => rfl) (put_i (fun _ _ _ => rfl)) (fun h => Sh_si h) dX3_toll_32 ?_
      refine J_ltM (fun M5 => ?_)
      refine J_iconst (pc := 35) 0 dX3_toll_35 (by decide) ?_
      refine J_istore (pc := 36) dX3_toll_36 (by decide) ?_
      refine J_sub (A := [some (.ref 72), none, none, some (.int v3), some (.int 0)]) ⟨rfl, ⟨rfl, ⟨rfl, trivial⟩⟩⟩ (t_m_toll_L38 G v3  FU 0 M5)
    · refine J_iconst (pc := 21) (-1) dX3_toll_21 (by decide) ?_
      exact J_iret (pc := 22) dX3_toll_22

theorem C_m_toll (l : Launch) (p1 : Int32) (p2 : Int32) (M : PM) : Ctr l Sh yX3_toll cX3_toll 5 (some .int) 143 rvI [.ref 72, .int p1, .int p2] M (m_toll p1 p2 M) := Ctr.of (by decide +kernel) (Nat.le_of_ble_eq_true rfl) (fun G => t_m_toll G p1 p2 M)

abbrev T_m_goWalk (G : JG) (M : PM) (pc : Nat) (L : List (Option Value)) (S : List Value) (o : Option (Int32 × PM)) : Prop := JJ G cX3_goWalk yX3_goWalk 3 1 (some .int) Sh (finR G Sh rvI) M pc L S o
def m_goWalk (p0 : Nat) (p1 : Int32) (p2 : Int32) (M : PM) : Option (Int32 × PM) :=
    cka M p0 20 p1 <|
    cka M p0 20 p1 <|
    lt (M.si p0 (ix p1) ((M.i p0 (ix p1)) + ((2 * p2) - 1))) fun M1 =>
    cka M1 p0 20 12 <|
    cka M1 p0 20 12 <|
    lt (M1.si p0 (ix 12) ((M1.i p0 (ix 12)) + 1)) fun M2 =>
    cka M2 p0 20 p1 <|
    some ((M2.i p0 (ix p1)), M2)

set_option maxHeartbeats 4000000 in
theorem t_m_goWalk (G : JG) (p0 : Nat) (p1 : Int32) (p2 : Int32) (M : PM) : T_m_goWalk G  M 0 (ent [.ref p0, .int p1, .int p2] 3) [] (m_goWalk p0 p1 p2 M) := by
  unfold m_goWalk
  refine J_aload_n (pc := 0) dX3_goWalk_0 rfl ?_
  refine J_iload_n (pc := 1) dX3_goWalk_1 rfl ?_
  refine J_dup2 (pc := 2) dX3_goWalk_2 rfl rfl ?_
  refine J_cka (fun h1 h12 => ?_)
  refine J_iald (pc := 3) (a := p0) (fun _ => ⟨h1, h12⟩) dX3_goWalk_3 ?_
  refine J_iconst (pc := 4) 2 dX3_goWalk_4 (by decide) ?_
  refine J_iload_n (pc := 5) dX3_goWalk_5 rfl ?_
  refine J_imul (pc := 6) dX3_goWalk_6 ?_
  refine J_iconst (pc := 7) 1 dX3_goWalk_7 (by decide) ?_
  refine J_isub (pc := 8) dX3_goWalk_8 ?_
  refine J_iadd (pc := 9) dX3_goWalk_9 ?_
  refine J_cka (fun h2 h22 => ?_)
  refine J_iast (pc := 10) (a := p0) (fun _ => ⟨h2, h22⟩) (fun h => Sh_si h) dX3_goWalk_10 ?_
  refine J_ltM (fun M1 => ?_)
  refine J_aload_n (pc := 11) dX3_goWalk_11 rfl ?_
  refine J_bipush (pc := 12) 12 dX3_goWalk_12 (by decide) ?_
  refine J_dup2 (pc := 14) dX3_goWalk_14 rfl rfl ?_
  refine J_cka (fun h3 h32 => ?_)
  refine J_iald (pc := 15) (a := p0) (fun _ => ⟨h3, h32⟩) dX3_goWalk_15 ?_
  refine J_iconst (pc := 16) 1 dX3_goWalk_16 (by decide) ?_
  refine J_iadd (pc := 17) dX3_goWalk_17 ?_
  refine J_cka (fun h4 h42 => ?_)
  refine J_iast (pc := 18) (a := p0) (fun _ => ⟨h4, h42⟩) (fun h => Sh_si h) dX3_goWalk_18 ?_
  refine J_ltM (fun M2 => ?_)
  refine J_aload_n (pc := 19) dX3_goWalk_19 rfl ?_
  refine J_iload_n (pc := 20) dX3_goWalk_20 rfl ?_
  refine J_cka (fun h5 h52 => ?_)
  refine J_iald (pc := 21) (a := p0) (fun _ => ⟨h5, h52⟩) dX3_goWalk_21 ?_
  exact J_iret (pc := 22) dX3_goWalk_22

theorem C_m_goWalk (l : Launch) (p0 : Nat) (p1 : Int32) (p2 : Int32) (M : PM) : Ctr l Sh yX3_goWalk cX3_goWalk 3 (some .int) 1 rvI [.ref p0, .int p1, .int p2] M (m_goWalk p0 p1 p2 M) := Ctr.of (by decide +kernel) (Nat.le_of_ble_eq_true rfl) (fun G => t_m_goWalk G p0 p1 p2 M)

abbrev T_m_refusesWalk (G : JG) (M : PM) (pc : Nat) (L : List (Option Value)) (S : List Value) (o : Option (Int32 × PM)) : Prop := JJ G cX3_refusesWalk yX3_refusesWalk 4 3 (some .int) Sh (finR G Sh rvI) M pc L S o
def m_refusesWalk (p1 : Nat) (p2 : Int32) (p3 : Int32) (M : PM) : Option (Int32 × PM) :=
    bd (m_isOne p2 M) fun v1 M1 =>
    if v1 = 0 then (some ((-1), M1))
    else (bd (m_in p3 0 1 M1) fun v2 M2 =>
    if v2 = 0 then (some ((-1), M2))
    else (cka M2 p1 20 p2 <|
    bd (m_isStation (((M2.i p1 (ix p2)) + (2 * p3)) - 1) M2) fun v3 M3 =>
    if v3 = 0 then (some ((-2), M3))
    else (some (0, M3))))

set_option maxHeartbeats 4000000 in
theorem t_m_refusesWalk (G : JG) (p1 : Nat) (p2 : Int32) (p3 : Int32) (M : PM) : T_m_refusesWalk G  M 0 (ent [.ref 72, .ref p1, .int p2, .int p3] 4) [] (m_refusesWalk p1 p2 p3 M) := by
  unfold m_refusesWalk
  refine J_aload_n (pc := 0) dX3_refusesWalk_0 rfl ?_
  refine J_iload_n (pc := 1) dX3_refusesWalk_1 rfl ?_
  refine J_callV (pc := 2) (n := 1) (b := 72) (vs := [.int p2]) (ci := 2) (fun l => C_m_isOne l p2 M) (lw_V q1410 q1412 qs81 q118 q1413) nmv_X3_isOne rfl (by omega) (by decide) rfl (fun h => sh_k1 h 52 rfl) rfl (Nat.le_of_ble_eq_true rfl) dX3_refusesWalk_2 (fun v1 M1 => ?_)
  refine J_if_eq (pc := 5) 17 dX3_refusesWalk_5 rfl (fun h => if_pos h) (fun h => if_neg h) (fun _ => ?_) (fun _ => ?_)
  · refine J_iconst (pc := 17) (-1) dX3_refusesWalk_17 (by decide) ?_
    exact J_iret (pc := 18) dX3_refusesWalk_18
  · refine J_iload_n (pc := 8) dX3_refusesWalk_8 rfl ?_
    refine J_iconst (pc := 9) 0 dX3_refusesWalk_9 (by decide) ?_
    refine J_iconst (pc := 10) 1 dX3_refusesWalk_10 (by decide) ?_
    refine J_callS (pc := 11) (n := 3) (vs := [.int p3, .int 0, .int 1]) (fun l => C_m_in l p3 0 1 M1) (lw_S q1289 q1290 q118 q1291) nmh_X3_in rfl (by omega) (by decide) rfl (Nat.le_of_ble_eq_true rfl) dX3_refusesWalk_11 (fun v2 M2 => ?_)
    refine J_if_ne (pc := 14) 19 dX3_refusesWalk_14 rfl (fun h => if_neg h) (fun h => if_pos h) (fun _ => ?_) (fun _ => ?_)
    · refine J_aload_n (pc := 19) dX3_refusesWalk_19 rfl ?_
      refine J_aload_n (pc := 20) dX3_refusesWalk_20 rfl ?_
      refine J_iload_n (pc := 21) dX3_refusesWalk_21 rfl ?_
      refine J_cka (fun h1 h12 => ?_)
      refine J_iald (pc := 22) (a := p1) (fun _ => ⟨h1, h12⟩) dX3_refusesWalk_22 ?_
      refine J_iconst (pc := 23) 2 dX3_refusesWalk_23 (by decide) ?_
      refine J_iload_n (pc := 24) dX3_refusesWalk_24 rfl ?_
      refine J_imul (pc := 25) dX3_refusesWalk_25 ?_
      refine J_iadd (pc := 26) dX3_refusesWalk_26 ?_
      refine J_iconst (pc := 27) 1 dX3_refusesWalk_27 (by decide) ?_
      refine J_isub (pc := 28) dX3_refusesWalk_28 ?_
      refine J_callV (pc := 29) (n := 1) (b := 72) (vs := [.int (((M2.i p1 (ix p2)) + (2 * p3)) - 1)]) (ci := 2) (fun l => C_m_isStation l (((M2.i p1 (ix p2)) + (2 * p3)) - 1) M2) (lw_V q1433 q1435 qs84 q118 q1436) nmv_X3_isStation rfl (by omega) (by decide) rfl (fun h => sh_k1 h 52 rfl) rfl (Nat.le_of_ble_eq_true rfl) dX3_refusesWalk_29 (fun v3 M3 => ?_)
      refine J_if_eq (pc := 32) 39 dX3_refusesWalk_32 rfl (fun h => if_pos h) (fun h => if_neg h) (fun _ => ?_) (fun _ => ?_)
      · refine J_bipush (pc := 39) (-2) dX3_refusesWalk_39 (by decide) ?_
        exact J_iret (pc := 41) dX3_refusesWalk_41
      · refine J_iconst (pc := 35) 0 dX3_refusesWalk_35 (by decide) ?_
        refine J_goto (pc := 36) 41 dX3_refusesWalk_36 rfl ?_
        exact J_iret (pc := 41) dX3_refusesWalk_41
    · refine J_iconst (pc := 17) (-1) dX3_refusesWalk_17 (by decide) ?_
      exact J_iret (pc := 18) dX3_refusesWalk_18

theorem C_m_refusesWalk (l : Launch) (p1 : Nat) (p2 : Int32) (p3 : Int32) (M : PM) : Ctr l Sh yX3_refusesWalk cX3_refusesWalk 4 (some .int) 3 rvI [.ref 72, .ref p1, .int p2, .int p3] M (m_refusesWalk p1 p2 p3 M) := Ctr.of (by decide +kernel) (Nat.le_of_ble_eq_true rfl) (fun G => t_m_refusesWalk G p1 p2 p3 M)

abbrev T_m_lay (G : JG) (M : PM) (pc : Nat) (L : List (Option Value)) (S : List Value) (o : Option (Unit × PM)) : Prop := JJ G cX3_lay yX3_lay 4 1 none Sh (finR G Sh rvU) M pc L S o
def m_lay_L2 (c0 : Nat) (c1 : Nat) (c2 : Int32) : Nat → Int32 → PM → Option (Unit × PM)
  | 0, _, _ => none
  | n + 1, v1, M1 =>
    if 44 ≤ v1 then (some ((), M1))
    else (cka M1 c0 20 v1 <|
    cka M1 c1 20 (c2 + v1) <|
    lt (M1.si c1 (ix (c2 + v1)) (M1.i c0 (ix v1))) fun M2 =>
    lt (v1 + 1) fun v2 =>
    m_lay_L2 c0 c1 c2 n v2 M2)

set_option maxHeartbeats 4000000 in
theorem t_m_lay_L2 (G : JG) (c0 : Nat) (c1 : Nat) (c2 : Int32) : ∀ (n : Nat) (v1 : Int32) (M1 : PM), T_m_lay G  M1 2 [some (.ref c0), some (.ref c1), some (.int c2), some (.int v1)] [] (m_lay_L2 c0 c1 c2 n v1 M1) := by
  intro n
  induction n with
  | zero =>
    intro v1 M1
    exact J_none
  | succ n ih =>
    intro v1 M1
    rw [m_lay_L2]
    refine J_iload_n (pc := 2) dX3_lay_2 rfl ?_
    refine J_bipush (pc := 3) 44 dX3_lay_3 (by decide) ?_
    refine J_icmp_ge (pc := 5) 22 dX3_lay_5 rfl (fun h => if_pos h) (fun h => if_neg h) (fun _ => ?_) (fun _ => ?_)
    · exact J_ret (pc := 22) dX3_lay_22
    · refine J_aload_n (pc := 8) dX3_lay_8 rfl ?_
      refine J_iload_n (pc := 9) dX3_lay_9 rfl ?_
      refine J_iload_n (pc := 10) dX3_lay_10 rfl ?_
      refine J_iadd (pc := 11) dX3_lay_11 ?_
      refine J_aload_n (pc := 12) dX3_lay_12 rfl ?_
      refine J_iload_n (pc := 13) dX3_lay_13 rfl ?_
      refine J_cka (fun h1 h12 => ?_)
      refine J_iald (pc := 14) (a := c0) (fun _ => ⟨h1, h12⟩) dX3_lay_14 ?_
      refine J_cka (fun h2 h22 => ?_)
      refine J_iast (pc := 15) (a := c1) (fun _ => ⟨h2, h22⟩) (fun h => Sh_si h) dX3_lay_15 ?_
      refine J_ltM (fun M2 => ?_)
      refine J_iincL (pc := 16) (n := 1) (by decide) dX3_lay_16 rfl (by decide) (fun v2 => ?_)
      refine J_goto (pc := 19) 2 dX3_lay_19 rfl ?_
      exact J_sub (A := [some (.ref c0), some (.ref c1), some (.int c2), some (.int v2)]) ⟨rfl, ⟨rfl, ⟨rfl, ⟨rfl, trivial⟩⟩⟩⟩ (ih v2 M2)

def m_lay (p0 : Nat) (p1 : Nat) (p2 : Int32) (M : PM) : Option (Unit × PM) :=
    m_lay_L2 p0 p1 p2 FU 0 M

set_option maxHeartbeats 4000000 in
theorem t_m_lay (G : JG) (p0 : Nat) (p1 : Nat) (p2 : Int32) (M : PM) : T_m_lay G  M 0 (ent [.ref p0, .ref p1, .int p2] 4) [] (m_lay p0 p1 p2 M) := by
  unfold m_lay
  refine J_iconst (pc := 0) 0 dX3_lay_0 (by decide) ?_
  refine J_istore_n (pc := 1) dX3_lay_1 (by decide) ?_
  refine J_sub (A := [some (.ref p0), some (.ref p1), some (.int p2), some (.int 0)]) ⟨rfl, ⟨rfl, ⟨rfl, ⟨rfl, trivial⟩⟩⟩⟩ (t_m_lay_L2 G p0 p1 p2  FU 0 M)

theorem C_m_lay (l : Launch) (p0 : Nat) (p1 : Nat) (p2 : Int32) (M : PM) : Ctr l Sh yX3_lay cX3_lay 4 none 1 rvU [.ref p0, .ref p1, .int p2] M (m_lay p0 p1 p2 M) := Ctr.of (by decide +kernel) (Nat.le_of_ble_eq_true rfl) (fun G => t_m_lay G p0 p1 p2 M)

abbrev T_m_remember (G : JG) (M : PM) (pc : Nat) (L : List (Option Value)) (S : List Value) (o : Option (Unit × PM)) : Prop := JJ G cX3_remember yX3_remember 3 2 none Sh (finR G Sh rvU) M pc L S o
def m_remember_L11 (c1 : Nat) (k39 : PM → Option (Unit × PM)) : Nat → Int32 → PM → Option (Unit × PM)
  | 0, _, _ => none
  | n + 1, v1, M4 =>
    if 484 ≤ v1 then (k39 M4)
    else (ck (v1 + 44) 528 <|
    ck v1 528 <|
    lt (M4.si 87 (ix v1) (M4.i 87 (ix (v1 + 44)))) fun M5 =>
    lt (v1 + 1) fun v2 =>
    m_remember_L11 c1 k39 n v2 M5)

set_option maxHeartbeats 4000000 in
theorem t_m_remember_L11 (G : JG) (c1 : Nat) (k39 : PM → Option (Unit × PM)) (hk39 : ∀ Me, T_m_remember G  Me 39 [some (.ref 72), some (.ref c1), none] [] (k39 Me)) : ∀ (n : Nat) (v1 : Int32) (M4 : PM), T_m_remember G  M4 11 [some (.ref 72), some (.ref c1), some (.int v1)] [] (m_remember_L11 c1 k39 n v1 M4) := by
  intro n
  induction n with
  | zero =>
    intro v1 M4
    exact J_none
  | succ n ih =>
    intro v1 M4
    rw [m_remember_L11]
    refine J_iload_n (pc := 11) dX3_remember_11 rfl ?_
    refine J_sipush (pc := 12) 484 dX3_remember_12 (by decide) ?_
    refine J_icmp_ge (pc := 15) 39 dX3_remember_15 rfl (fun h => if_pos h) (fun h => if_neg h) (fun _ => ?_) (fun _ => ?_)
    · exact J_sub (A := [some (.ref 72), some (.ref c1), none]) ⟨rfl, ⟨rfl, trivial⟩⟩ (hk39 M4)
    · refine J_aload_n (pc := 18) dX3_remember_18 rfl ?_
      refine J_get (pc := 19) (c := 2) (.ref 87) rfl in_X3 28 (by decide) q1135 rfl (fun h => sh_k1 h 52 rfl) (fun h _ => fv_ref (Or.inr ⟨_, rfl⟩) (sh_r h 63 rfl)) dX3_remember_19 ?_
      refine J_iload_n (pc := 22) dX3_remember_22 rfl ?_
      refine J_aload_n (pc := 23) dX3_remember_23 rfl ?_
      refine J_get (pc := 24) (c := 2) (.ref 87) rfl in_X3 28 (by decide) q1135 rfl (fun h => sh_k1 h 52 rfl) (fun h _ => fv_ref (Or.inr ⟨_, rfl⟩) (sh_r h 63 rfl)) dX3_remember_24 ?_
      refine J_iload_n (pc := 27) dX3_remember_27 rfl ?_
      refine J_bipush (pc := 28) 44 dX3_remember_28 (by decide) ?_
      refine J_iadd (pc := 30) dX3_remember_30 ?_
      refine J_ck (fun h1 => ?_)
      refine J_iald (pc := 31) (a := 87) (fun h => sh_a h 67 rfl h1) dX3_remember_31 ?_
      refine J_ck (fun h2 => ?_)
      refine J_iast (pc := 32) (a := 87) (fun h => sh_a h 67 rfl h2) (fun h => Sh_si h) dX3_remember_32 ?_
      refine J_ltM (fun M5 => ?_)
      refine J_iincL (pc := 33) (n := 1) (by decide) dX3_remember_33 rfl (by decide) (fun v2 => ?_)
      refine J_goto (pc := 36) 11 dX3_remember_36 rfl ?_
      exact J_sub (A := [some (.ref 72), some (.ref c1), some (.int v2)]) ⟨rfl, ⟨rfl, ⟨rfl, trivial⟩⟩⟩ (ih v2 M5)

def m_remember (p1 : Nat) (M : PM) : Option (Unit × PM) :=
    jn (fun (M1 : PM) =>
    bd (m_lay p1 87 (44 * (M1.i 72 29)) M1) fun _ M2 =>
    lt (M2.si 72 29 ((M2.i 72 29) + 1)) fun M3 =>
    some ((), M3)) fun j1 =>
    if (M.i 72 29) = 12 then (m_remember_L11 p1 (fun (M6 : PM) =>
    lt (M6.si 72 29 ((M6.i 72 29) - 1)) fun M7 =>
    j1 M7) FU 0 M)
    else (j1 M)

set_option maxHeartbeats 4000000 in
theorem t_m_remember (G : JG) (p1 : Nat) (M : PM) : T_m_remember G  M 0 (ent [.ref 72, .ref p1] 3) [] (m_remember p1 M) := by
  unfold m_remember
  refine J_aload_n (pc := 0) dX3_remember_0 rfl ?_
  refine J_get (pc := 1) (c := 2) (.int (M.i 72 29)) rfl in_X3 29 (by decide) q1136 rfl (fun h => sh_k1 h 52 rfl) (fun _ _ => rfl) dX3_remember_1 ?_
  refine J_bipush (pc := 4) 12 dX3_remember_4 (by decide) ?_
  refine J_jn (P := fun J => ∀ (M1 : PM), T_m_remember G  M1 49 [some (.ref 72), some (.ref p1), none] [] (J M1)) (fun M1 => ?_) (fun j1 hj1 => ?_)
  · refine J_aload_n (pc := 49) dX3_remember_49 rfl ?_
    refine J_aload_n (pc := 50) dX3_remember_50 rfl ?_
    refine J_get (pc := 51) (c := 2) (.ref 87) rfl in_X3 28 (by decide) q1135 rfl (fun h => sh_k1 h 52 rfl) (fun h _ => fv_ref (Or.inr ⟨_, rfl⟩) (sh_r h 63 rfl)) dX3_remember_51 ?_
    refine J_bipush (pc := 54) 44 dX3_remember_54 (by decide) ?_
    refine J_aload_n (pc := 56) dX3_remember_56 rfl ?_
    refine J_get (pc := 57) (c := 2) (.int (M1.i 72 29)) rfl in_X3 29 (by decide) q1136 rfl (fun h => sh_k1 h 52 rfl) (fun _ _ => rfl) dX3_remember_57 ?_
    refine J_imul (pc := 60) dX3_remember_60 ?_
    refine J_callS (pc := 61) (n := 3) (vs := [.ref p1, .ref 87, .int (44 * (M1.i 72 29))]) (fun l => C_m_lay l p1 87 (44 * (M1.i 72 29)) M1) (lw_S q1471 q1472 q118 q1473) nmh_X3_lay rfl (by omega) (by decide) rfl (Nat.le_of_ble_eq_true rfl) dX3_remember_61 (fun _ M2 => ?_)
    refine J_aload_n (pc := 64) dX3_remember_64 rfl ?_
    refine J_dup (pc := 65) dX3_remember_65 rfl ?_
    refine J_get (pc := 66) (c := 2) (.int (M2.i 72 29)) rfl in_X3 29 (by decide) q1136 rfl (fun h => sh_k1 h 52 rfl) (fun _ _ => rfl) dX3_remember_66 ?_
    refine J_iconst (pc := 69) 1 dX3_remember_69 (by decide) ?_
    refine J_iadd (pc := 70) dX3_remember_70 ?_
    refine J_put (pc := 71) (a := 72) (v := .int ((M2.i 72 29) + 1)) (M' := M2.si 72 29 ((M2.i 72 29) + 1)) (c := 2) rfl in_X3 tyX3_ok fnX3 29 (by decide) q1136 rfl (Or.inl rfl) (fun h => sh_k1 h 52 rfl) (fun _ => rfl) (fun _ => rfl) ⟨⟨rfl, rfl⟩, rfl⟩ (fun _ hb => up2_same hb) (fun _ _ => rfl) (fun _ _ => rfl) (put_i (fun _ _ _ => rfl)) (fun h => Sh_si h) dX3_remember_71 ?_
    refine J_ltM (fun M3 => ?_)
    exact J_ret (pc := 74) dX3_remember_74
  refine J_icmp_ne (pc := 6) 49 dX3_remember_6 rfl (fun h => if_neg h) (fun h => if_pos h) (fun _ => ?_) (fun _ => ?_)
  · exact J_sub (A := [some (.ref 72), some (.ref p1), none]) ⟨rfl, ⟨rfl, trivial⟩⟩ (hj1 M)
  · refine J_iconst (pc := 9) 0 dX3_remember_9 (by decide) ?_
    refine J_istore_n (pc := 10) dX3_remember_10 (by decide) ?_
    refine J_sub (A := [some (.ref 72), some (.ref p1), some (.int 0)]) ⟨rfl, ⟨rfl, ⟨rfl, trivial⟩⟩⟩ (t_m_remember_L11 G p1 _ ?_ FU 0 M)
    · intro M6
      refine J_aload_n (pc := 39) dX3_remember_39 rfl ?_
      refine J_dup (pc := 40) dX3_remember_40 rfl ?_
      refine J_get (pc := 41) (c := 2) (.int (M6.i 72 29)) rfl in_X3 29 (by decide) q1136 rfl (fun h => sh_k1 h 52 rfl) (fun _ _ => rfl) dX3_remember_41 ?_
      refine J_iconst (pc := 44) 1 dX3_remember_44 (by decide) ?_
      refine J_isub (pc := 45) dX3_remember_45 ?_
      refine J_put (pc := 46) (a := 72) (v := .int ((M6.i 72 29) - 1)) (M' := M6.si 72 29 ((M6.i 72 29) - 1)) (c := 2) rfl in_X3 tyX3_ok fnX3 29 (by decide) q1136 rfl (Or.inl rfl) (fun h => sh_k1 h 52 rfl) (fun _ => rfl) (fun _ => rfl) ⟨⟨rfl, rfl⟩, rfl⟩ (fun _ hb => up2_same hb) (fun _ _ => rfl) (fun _ _ => rfl) (put_i (fun _ _ _ => rfl)) (fun h => Sh_si h) dX3_remember_46 ?_
      refine J_ltM (fun M7 => ?_)
      exact J_sub (A := [some (.ref 72), some (.ref p1), none]) ⟨rfl, ⟨rfl, trivial⟩⟩ (hj1 M7)

theorem C_m_remember (l : Launch) (p1 : Nat) (M : PM) : Ctr l Sh yX3_remember cX3_remember 3 none 2 rvU [.ref 72, .ref p1] M (m_remember p1 M) := Ctr.of (by decide +kernel) (Nat.le_of_ble_eq_true rfl) (fun G => t_m_remember G p1 M)

abbrev T_m_walk (G : JG) (M : PM) (pc : Nat) (L : List (Option Value)) (S : List Value) (o : Option (Int32 × PM)) : Prop := JJ G cX3_walk yX3_walk 4 4 (some .int) Sh (finR G Sh rvI) M pc L S o
def m_walk (p1 : Int32) (p2 : Int32) (M : PM) : Option (Int32 × PM) :=
    lt (M.si 72 13 0) fun M1 =>
    bd (m_refusesWalk 73 p1 p2 M1) fun v1 M2 =>
    if 0 ≤ v1 then (bd (m_remember 73 M2) fun _ M3 =>
    bd (m_goWalk 73 p1 p2 M3) fun v2 M4 =>
    some (v2, M4))
    else (some (v1, M2))

set_option maxHeartbeats 4000000 in
theorem t_m_walk (G : JG) (p1 : Int32) (p2 : Int32) (M : PM) : T_m_walk G  M 0 (ent [.ref 72, .int p1, .int p2] 4) [] (m_walk p1 p2 M) := by
  unfold m_walk
  refine J_aload_n (pc := 0) dX3_walk_0 rfl ?_
  refine J_iconst (pc := 1) 0 dX3_walk_1 (by decide) ?_
  refine J_put (pc := 2) (a := 72) (v := .int 0) (M' := M.si 72 13 0) (c := 2) rfl in_X3 tyX3_ok fnX3 13 (by decide) q1120 rfl (Or.inl rfl) (fun h => sh_k1 h 52 rfl) (fun _ => rfl) (fun _ => rfl) ⟨⟨rfl, rfl⟩, rfl⟩ (fun _ hb => up2_same hb) (fun _ _ => rfl) (fun _ _ => rfl) (put_i (fun _ _ _ => rfl)) (fun h => Sh_si h) dX3_walk_2 ?_
  refine J_ltM (fun M1 => ?_)
  refine J_aload_n (pc := 5) dX3_walk_5 rfl ?_
  refine J_aload_n (pc := 6) dX3_walk_6 rfl ?_
  refine J_get (pc := 7) (c := 2) (.ref 73) rfl in_X3 0 (by decide) q1107 rfl (fun h => sh_k1 h 52 rfl) (fun h _ => fv_ref (Or.inr ⟨_, rfl⟩) (sh_r h 51 rfl)) dX3_walk_7 ?_
  refine J_iload_n (pc := 10) dX3_walk_10 rfl ?_
  refine J_iload_n (pc := 11) dX3_walk_11 rfl ?_
  refine J_callV (pc := 12) (n := 3) (b := 72) (vs := [.ref 73, .int p1, .int p2]) (ci := 2) (fun l => C_m_refusesWalk l 73 p1 p2 M1) (lw_V q1463 q1465 qs88 q118 q1466) nmv_X3_refusesWalk rfl (by omega) (by decide) rfl (fun h => sh_k1 h 52 rfl) rfl (Nat.le_of_ble_eq_true rfl) dX3_walk_12 (fun v1 M2 => ?_)
  refine J_istore_n (pc := 15) dX3_walk_15 (by decide) ?_
  refine J_iload_n (pc := 16) dX3_walk_16 rfl ?_
  refine J_if_ge (pc := 17) 22 dX3_walk_17 rfl (fun h => if_pos h) (fun h => if_neg h) (fun _ => ?_) (fun _ => ?_)
  · refine J_aload_n (pc := 22) dX3_walk_22 rfl ?_
    refine J_aload_n (pc := 23) dX3_walk_23 rfl ?_
    refine J_get (pc := 24) (c := 2) (.ref 73) rfl in_X3 0 (by decide) q1107 rfl (fun h => sh_k1 h 52 rfl) (fun h _ => fv_ref (Or.inr ⟨_, rfl⟩) (sh_r h 51 rfl)) dX3_walk_24 ?_
    refine J_callV (pc := 27) (n := 1) (b := 72) (vs := [.ref 73]) (ci := 2) (fun l => C_m_remember l 73 M2) (lw_V q1467 q1469 qs89 q118 q1470) nmv_X3_remember rfl (by omega) (by decide) rfl (fun h => sh_k1 h 52 rfl) rfl (Nat.le_of_ble_eq_true rfl) dX3_walk_27 (fun _ M3 => ?_)
    refine J_aload_n (pc := 30) dX3_walk_30 rfl ?_
    refine J_get (pc := 31) (c := 2) (.ref 73) rfl in_X3 0 (by decide) q1107 rfl (fun h => sh_k1 h 52 rfl) (fun h _ => fv_ref (Or.inr ⟨_, rfl⟩) (sh_r h 51 rfl)) dX3_walk_31 ?_
    refine J_iload_n (pc := 34) dX3_walk_34 rfl ?_
    refine J_iload_n (pc := 35) dX3_walk_35 rfl ?_
    refine J_callS (pc := 36) (n := 3) (vs := [.ref 73, .int p1, .int p2]) (fun l => C_m_goWalk l 73 p1 p2 M3) (lw_S q1474 q1475 q118 q1476) nmh_X3_goWalk rfl (by omega) (by decide) rfl (Nat.le_of_ble_eq_true rfl) dX3_walk_36 (fun v2 M4 => ?_)
    exact J_iret (pc := 39) dX3_walk_39
  · refine J_iload_n (pc := 20) dX3_walk_20 rfl ?_
    exact J_iret (pc := 21) dX3_walk_21

theorem C_m_walk (l : Launch) (p1 : Int32) (p2 : Int32) (M : PM) : Ctr l Sh yX3_walk cX3_walk 4 (some .int) 4 rvI [.ref 72, .int p1, .int p2] M (m_walk p1 p2 M) := Ctr.of (by decide +kernel) (Nat.le_of_ble_eq_true rfl) (fun G => t_m_walk G p1 p2 M)

abbrev T_m_pause (G : JG) (M : PM) (pc : Nat) (L : List (Option Value)) (S : List Value) (o : Option (Int32 × PM)) : Prop := JJ G cX3_pause yX3_pause 2 3 (some .int) Sh (finR G Sh rvI) M pc L S o
def m_pause (p1 : Int32) (M : PM) : Option (Int32 × PM) :=
    lt (M.si 72 13 0) fun M1 =>
    bd (m_in p1 0 99 M1) fun v1 M2 =>
    if v1 = 0 then (some ((-1), M2))
    else (jn (fun (M3 : PM) =>
    ck 12 44 <|
    ck 12 44 <|
    lt (M3.si 73 (ix 12) ((M3.i 73 (ix 12)) + p1)) fun M4 =>
    ck 12 44 <|
    some ((M4.i 73 (ix 12)), M4)) fun j1 =>
    if p1 ≤ 0 then (j1 M2)
    else (bd (m_remember 73 M2) fun _ M5 =>
    j1 M5))

set_option maxHeartbeats 4000000 in
theorem t_m_pause (G : JG) (p1 : Int32) (M : PM) : T_m_pause G  M 0 (ent [.ref 72, .int p1] 2) [] (m_pause p1 M) := by
  unfold m_pause
  refine J_aload_n (pc := 0) dX3_pause_0 rfl ?_
  refine J_iconst (pc := 1) 0 dX3_pause_1 (by decide) ?_
  refine J_put (pc := 2) (a := 72) (v := .int 0) (M' := M.si 72 13 0) (c := 2) rfl in_X3 tyX3_ok fnX3 13 (by decide) q1120 rfl (Or.inl rfl) (fun h => sh_k1 h 52 rfl) (fun _ => rfl) (fun _ => rfl) ⟨⟨rfl, rfl⟩, rfl⟩ (fun _ hb => up2_same hb) (fun _ _ => rfl) (fun _ _ => rfl) (put_i (fun _ _ _ => rfl)) (fun h => Sh_si h) dX3_pause_2 ?_
  refine J_ltM (fun M1 => ?_)
  refine J_iload_n (pc := 5) dX3_pause_5 rfl ?_
  refine J_iconst (pc := 6) 0 dX3_pause_6 (by decide) ?_
  refine J_bipush (pc := 7) 99 dX3_pause_7 (by decide) ?_
  refine J_callS (pc := 9) (n := 3) (vs := [.int p1, .int 0, .int 99]) (fun l => C_m_in l p1 0 99 M1) (lw_S q1289 q1290 q118 q1291) nmh_X3_in rfl (by omega) (by decide) rfl (Nat.le_of_ble_eq_true rfl) dX3_pause_9 (fun v1 M2 => ?_)
  refine J_if_ne (pc := 12) 17 dX3_pause_12 rfl (fun h => if_neg h) (fun h => if_pos h) (fun _ => ?_) (fun _ => ?_)
  · refine J_iload_n (pc := 17) dX3_pause_17 rfl ?_
    refine J_jn (P := fun J => ∀ (M3 : PM), T_m_pause G  M3 29 [some (.ref 72), some (.int p1)] [] (J M3)) (fun M3 => ?_) (fun j1 hj1 => ?_)
    · refine J_aload_n (pc := 29) dX3_pause_29 rfl ?_
      refine J_get (pc := 30) (c := 2) (.ref 73) rfl in_X3 0 (by decide) q1107 rfl (fun h => sh_k1 h 52 rfl) (fun h _ => fv_ref (Or.inr ⟨_, rfl⟩) (sh_r h 51 rfl)) dX3_pause_30 ?_
      refine J_bipush (pc := 33) 12 dX3_pause_33 (by decide) ?_
      refine J_dup2 (pc := 35) dX3_pause_35 rfl rfl ?_
      refine J_ck (fun h1 => ?_)
      refine J_iald (pc := 36) (a := 73) (fun h => sh_a h 53 rfl h1) dX3_pause_36 ?_
      refine J_iload_n (pc := 37) dX3_pause_37 rfl ?_
      refine J_iadd (pc := 38) dX3_pause_38 ?_
      refine J_ck (fun h2 => ?_)
      refine J_iast (pc := 39) (a := 73) (fun h => sh_a h 53 rfl h2) (fun h => Sh_si h) dX3_pause_39 ?_
      refine J_ltM (fun M4 => ?_)
      refine J_aload_n (pc := 40) dX3_pause_40 rfl ?_
      refine J_get (pc := 41) (c := 2) (.ref 73) rfl in_X3 0 (by decide) q1107 rfl (fun h => sh_k1 h 52 rfl) (fun h _ => fv_ref (Or.inr ⟨_, rfl⟩) (sh_r h 51 rfl)) dX3_pause_41 ?_
      refine J_bipush (pc := 44) 12 dX3_pause_44 (by decide) ?_
      refine J_ck (fun h3 => ?_)
      refine J_iald (pc := 46) (a := 73) (fun h => sh_a h 53 rfl h3) dX3_pause_46 ?_
      exact J_iret (pc := 47) dX3_pause_47
    refine J_if_le (pc := 18) 29 dX3_pause_18 rfl (fun h => if_pos h) (fun h => if_neg h) (fun _ => ?_) (fun _ => ?_)
    · exact J_sub (A := [some (.ref 72), some (.int p1)]) ⟨rfl, ⟨rfl, trivial⟩⟩ (hj1 M2)
    · refine J_aload_n (pc := 21) dX3_pause_21 rfl ?_
      refine J_aload_n (pc := 22) dX3_pause_22 rfl ?_
      refine J_get (pc := 23) (c := 2) (.ref 73) rfl in_X3 0 (by decide) q1107 rfl (fun h => sh_k1 h 52 rfl) (fun h _ => fv_ref (Or.inr ⟨_, rfl⟩) (sh_r h 51 rfl)) dX3_pause_23 ?_
      refine J_callV (pc := 26) (n := 1) (b := 72) (vs := [.ref 73]) (ci := 2) (fun l => C_m_remember l 73 M2) (lw_V q1467 q1469 qs89 q118 q1470) nmv_X3_remember rfl (by omega) (by decide) rfl (fun h => sh_k1 h 52 rfl) rfl (Nat.le_of_ble_eq_true rfl) dX3_pause_26 (fun _ M5 => ?_)
      exact J_sub (A := [some (.ref 72), some (.int p1)]) ⟨rfl, ⟨rfl, trivial⟩⟩ (hj1 M5)
  · refine J_iconst (pc := 15) (-1) dX3_pause_15 (by decide) ?_
    exact J_iret (pc := 16) dX3_pause_16

theorem C_m_pause (l : Launch) (p1 : Int32) (M : PM) : Ctr l Sh yX3_pause cX3_pause 2 (some .int) 3 rvI [.ref 72, .int p1] M (m_pause p1 M) := Ctr.of (by decide +kernel) (Nat.le_of_ble_eq_true rfl) (fun G => t_m_pause G p1 M)

abbrev T_m_means (G : JG) (M : PM) (pc : Nat) (L : List (Option Value)) (S : List Value) (o : Option (Int32 × PM)) : Prop := JJ G cX3_means yX3_means 3 1 (some .boolean) Sh (finR G Sh rvI) M pc L S o
def m_means (p1 : Int32) (p2 : Int32) (M : PM) : Option (Int32 × PM) :=
    ck (2 * p1) 20 <|
    if (M.i 76 (ix (2 * p1))) = p2 then (some (1, M))
    else (ck ((2 * p1) + 1) 20 <|
    if (M.i 76 (ix ((2 * p1) + 1))) = p2 then (some (1, M))
    else (some (0, M)))

set_option maxHeartbeats 4000000 in
theorem t_m_means (G : JG) (p1 : Int32) (p2 : Int32) (M : PM) : T_m_means G  M 0 (ent [.ref 72, .int p1, .int p2] 3) [] (m_means p1 p2 M) := by
  unfold m_means
  refine J_aload_n (pc := 0) dX3_means_0 rfl ?_
  refine J_get (pc := 1) (c := 2) (.ref 76) rfl in_X3 5 (by decide) q1112 rfl (fun h => sh_k1 h 52 rfl) (fun h _ => fv_ref (Or.inr ⟨_, rfl⟩) (sh_r h 54 rfl)) dX3_means_1 ?_
  refine J_iconst (pc := 4) 2 dX3_means_4 (by decide) ?_
  refine J_iload_n (pc := 5) dX3_means_5 rfl ?_
  refine J_imul (pc := 6) dX3_means_6 ?_
  refine J_ck (fun h1 => ?_)
  refine J_iald (pc := 7) (a := 76) (fun h => sh_a h 56 rfl h1) dX3_means_7 ?_
  refine J_iload_n (pc := 8) dX3_means_8 rfl ?_
  refine J_icmp_eq (pc := 9) 26 dX3_means_9 rfl (fun h => if_pos h) (fun h => if_neg h) (fun _ => ?_) (fun _ => ?_)
  · refine J_iconst (pc := 26) 1 dX3_means_26 (by decide) ?_
    refine J_goto (pc := 27) 31 dX3_means_27 rfl ?_
    exact J_zret (pc := 31) rfl dX3_means_31
  · refine J_aload_n (pc := 12) dX3_means_12 rfl ?_
    refine J_get (pc := 13) (c := 2) (.ref 76) rfl in_X3 5 (by decide) q1112 rfl (fun h => sh_k1 h 52 rfl) (fun h _ => fv_ref (Or.inr ⟨_, rfl⟩) (sh_r h 54 rfl)) dX3_means_13 ?_
    refine J_iconst (pc := 16) 2 dX3_means_16 (by decide) ?_
    refine J_iload_n (pc := 17) dX3_means_17 rfl ?_
    refine J_imul (pc := 18) dX3_means_18 ?_
    refine J_iconst (pc := 19) 1 dX3_means_19 (by decide) ?_
    refine J_iadd (pc := 20) dX3_means_20 ?_
    refine J_ck (fun h2 => ?_)
    refine J_iald (pc := 21) (a := 76) (fun h => sh_a h 56 rfl h2) dX3_means_21 ?_
    refine J_iload_n (pc := 22) dX3_means_22 rfl ?_
    refine J_icmp_ne (pc := 23) 30 dX3_means_23 rfl (fun h => if_neg h) (fun h => if_pos h) (fun _ => ?_) (fun _ => ?_)
    · refine J_iconst (pc := 30) 0 dX3_means_30 (by decide) ?_
      exact J_zret (pc := 31) rfl dX3_means_31
    · refine J_iconst (pc := 26) 1 dX3_means_26 (by decide) ?_
      refine J_goto (pc := 27) 31 dX3_means_27 rfl ?_
      exact J_zret (pc := 31) rfl dX3_means_31

theorem C_m_means (l : Launch) (p1 : Int32) (p2 : Int32) (M : PM) : Ctr l Sh yX3_means cX3_means 3 (some .boolean) 1 rvI [.ref 72, .int p1, .int p2] M (m_means p1 p2 M) := Ctr.of (by decide +kernel) (Nat.le_of_ble_eq_true rfl) (fun G => t_m_means G p1 p2 M)

abbrev T_m_goSay (G : JG) (M : PM) (pc : Nat) (L : List (Option Value)) (S : List Value) (o : Option (Int32 × PM)) : Prop := JJ G cX3_goSay yX3_goSay 6 142 (some .int) Sh (finR G Sh rvI) M pc L S o
def m_goSay_L38 (c1 : Nat) (c2 : Int32) (c3 : Int32) (c4 : Int32) (k73 : PM → Option (Int32 × PM)) : Nat → Int32 → PM → Option (Int32 × PM)
  | 0, _, _ => none
  | n + 1, v2, M4 =>
    if 5 ≤ v2 then (k73 M4)
    else (cka M4 c1 20 c2 <|
    cka M4 c1 20 ((14 + (5 * (M4.i c1 (ix c2)))) + v2) <|
    bd (m_often c3 v2 M4) fun v3 M5 =>
    cka M5 c1 20 ((14 + (5 * (M4.i c1 (ix c2)))) + v2) <|
    lt (M5.si c1 (ix ((14 + (5 * (M4.i c1 (ix c2)))) + v2)) ((M4.i c1 (ix ((14 + (5 * (M4.i c1 (ix c2)))) + v2))) + v3)) fun M6 =>
    lt (v2 + 1) fun v4 =>
    m_goSay_L38 c1 c2 c3 c4 k73 n v4 M6)

set_option maxHeartbeats 4000000 in
theorem t_m_goSay_L38 (G : JG) (c1 : Nat) (c2 : Int32) (c3 : Int32) (c4 : Int32) (k73 : PM → Option (Int32 × PM)) (hk73 : ∀ Me, T_m_goSay G  Me 73 [some (.ref 72), some (.ref c1), some (.int c2), some (.int c3), some (.int c4), none] [] (k73 Me)) : ∀ (n : Nat) (v2 : Int32) (M4 : PM), T_m_goSay G  M4 38 [some (.ref 72), some (.ref c1), some (.int c2), some (.int c3), some (.int c4), some (.int v2)] [] (m_goSay_L38 c1 c2 c3 c4 k73 n v2 M4) := by
  intro n
  induction n with
  | zero =>
    intro v2 M4
    exact J_none
  | succ n ih =>
    intro v2 M4
    rw [m_goSay_L38]
    refine J_iload (pc := 38) dX3_goSay_38 rfl ?_
    refine J_iconst (pc := 40) 5 dX3_goSay_40 (by decide) ?_
    refine J_icmp_ge (pc := 41) 73 dX3_goSay_41 rfl (fun h => if_pos h) (fun h => if_neg h) (fun _ => ?_) (fun _ => ?_)
    · exact J_sub (A := [some (.ref 72), some (.ref c1), some (.int c2), some (.int c3), some (.int c4), none]) ⟨rfl, ⟨rfl, ⟨rfl, ⟨rfl, ⟨rfl, trivial⟩⟩⟩⟩⟩ (hk73 M4)
    · refine J_aload_n (pc := 44) dX3_goSay_44 rfl ?_
      refine J_bipush (pc := 45) 14 dX3_goSay_45 (by decide) ?_
      refine J_iconst (pc := 47) 5 dX3_goSay_47 (by decide) ?_
      refine J_aload_n (pc := 48) dX3_goSay_48 rfl ?_
      refine J_iload_n (pc := 49) dX3_goSay_49 rfl ?_
      refine J_cka (fun h7 h72 => ?_)
      refine J_iald (pc := 50) (a := c1) (fun _ => ⟨h7, h72⟩) dX3_goSay_50 ?_
      refine J_imul (pc := 51) dX3_goSay_51 ?_
      refine J_iadd (pc := 52) dX3_goSay_52 ?_
      refine J_iload (pc := 53) dX3_goSay_53 rfl ?_
      refine J_iadd (pc := 55) dX3_goSay_55 ?_
      refine J_dup2 (pc := 56) dX3_goSay_56 rfl rfl ?_
      refine J_cka (fun h8 h82 => ?_)
      refine J_iald (pc := 57) (a := c1) (fun _ => ⟨h8, h82⟩) dX3_goSay_57 ?_
      refine J_aload_n (pc := 58) dX3_goSay_58 rfl ?_
      refine J_iload_n (pc := 59) dX3_goSay_59 rfl ?_
      refine J_iload (pc := 60) dX3_goSay_60 rfl ?_
      refine J_callV (pc := 62) (n := 2) (b := 72) (vs := [.int c3, .int v2]) (ci := 2) (fun l => C_m_often l c3 v2 M4) (lw_V q1395 q1397 qs79 q118 q1398) nmv_X3_often rfl (by omega) (by decide) rfl (fun h => sh_k1 h 52 rfl) rfl (Nat.le_of_ble_eq_true rfl) dX3_goSay_62 (fun v3 M5 => ?_)
      refine J_iadd (pc := 65) dX3_goSay_65 ?_
      refine J_cka (fun h9 h92 => ?_)
      refine J_iast (pc := 66) (a := c1) (fun _ => ⟨h9, h92⟩) (fun h => Sh_si h) dX3_goSay_66 ?_
      refine J_ltM (fun M6 => ?_)
      refine J_iincL (pc := 67) (n := 1) (by decide) dX3_goSay_67 rfl (by decide) (fun v4 => ?_)
      refine J_goto (pc := 70) 38 dX3_goSay_70 rfl ?_
      exact J_sub (A := [some (.ref 72), some (.ref c1), some (.int c2), some (.int c3), some (.int c4), some (.int v4)]) ⟨rfl, ⟨rfl, ⟨rfl, ⟨rfl, ⟨rfl, ⟨rfl, trivial⟩⟩⟩⟩⟩⟩ (ih v4 M6)

def m_goSay_L81 (c1 : Nat) (c2 : Int32) (c3 : Int32) (c4 : Int32) (k164 : PM → Option (Int32 × PM)) : Nat → Int32 → PM → Option (Int32 × PM)
  | 0, _, _ => none
  | n + 1, v5, M9 =>
    if (M9.i 72 7) ≤ v5 then (k164 M9)
    else (bd (m_field v5 0 M9) fun v6 M10 =>
    jn (fun (v7 : Int32) (M11 : PM) =>
    lt (M11.si 72 31 ((M9.i 72 31) ||| v7)) fun M12 =>
    lt (v5 + 1) fun v8 =>
    m_goSay_L81 c1 c2 c3 c4 k164 n v8 M12) fun j1 =>
    if v6 = c2 then (bd (m_field v5 2 M10) fun v9 M13 =>
    cka M13 c1 20 c2 <|
    if v9 = (M13.i c1 (ix c2)) then (bd (m_field v5 1 M13) fun v10 M14 =>
    bd (m_means c3 v10 M14) fun v11 M15 =>
    if v11 = 0 then (j1 0 M15)
    else (cka M15 c1 20 13 <|
    bd (m_has (M15.i c1 (ix 13)) v5 M15) fun v12 M16 =>
    if v12 = 0 then (j1 (1 <<< (v5 &&& 31)) M16)
    else (j1 0 M16)))
    else (j1 0 M13))
    else (j1 0 M10))

set_option maxHeartbeats 4000000 in
theorem t_m_goSay_L81 (G : JG) (c1 : Nat) (c2 : Int32) (c3 : Int32) (c4 : Int32) (k164 : PM → Option (Int32 × PM)) (hk164 : ∀ Me, T_m_goSay G  Me 164 [some (.ref 72), some (.ref c1), none, none, some (.int c4), none] [] (k164 Me)) : ∀ (n : Nat) (v5 : Int32) (M9 : PM), T_m_goSay G  M9 81 [some (.ref 72), some (.ref c1), some (.int c2), some (.int c3), some (.int c4), some (.int v5)] [] (m_goSay_L81 c1 c2 c3 c4 k164 n v5 M9) := by
  intro n
  induction n with
  | zero =>
    intro v5 M9
    exact J_none
  | succ n ih =>
    intro v5 M9
    rw [m_goSay_L81]
    refine J_iload (pc := 81) dX3_goSay_81 rfl ?_
    refine J_aload_n (pc := 83) dX3_goSay_83 rfl ?_
    refine J_get (pc := 84) (c := 2) (.int (M9.i 72 7)) rfl in_X3 7 (by decide) q1114 rfl (fun h => sh_k1 h 52 rfl) (fun _ _ => rfl) dX3_goSay_84 ?_
    refine J_icmp_ge (pc := 87) 164 dX3_goSay_87 rfl (fun h => if_pos h) (fun h => if_neg h) (fun _ => ?_) (fun _ => ?_)
    · exact J_sub (A := [some (.ref 72), some (.ref c1), none, none, some (.int c4), none]) ⟨rfl, ⟨rfl, ⟨rfl, trivial⟩⟩⟩ (hk164 M9)
    · refine J_aload_n (pc := 90) dX3_goSay_90 rfl ?_
      refine J_dup (pc := 91) dX3_goSay_91 rfl ?_
      refine J_get (pc := 92) (c := 2) (.int (M9.i 72 31)) rfl in_X3 31 (by decide) q1138 rfl (fun h => sh_k1 h 52 rfl) (fun _ _ => rfl) dX3_goSay_92 ?_
      refine J_aload_n (pc := 95) dX3_goSay_95 rfl ?_
      refine J_iload (pc := 96) dX3_goSay_96 rfl ?_
      refine J_iconst (pc := 98) 0 dX3_goSay_98 (by decide) ?_
      refine J_callV (pc := 99) (n := 2) (b := 72) (vs := [.int v5, .int 0]) (ci := 2) (fun l => C_m_field l v5 0 M9) (lw_V q1418 q1420 qs83 q118 q1421) nmv_X3_field rfl (by omega) (by decide) rfl (fun h => sh_k1 h 52 rfl) rfl (Nat.le_of_ble_eq_true rfl) dX3_goSay_99 (fun v6 M10 => ?_)
      refine J_iload_n (pc := 102) dX3_goSay_102 rfl ?_
      refine J_jn (P := fun J => ∀ (v7 : Int32) (M11 : PM), T_m_goSay G  M11 154 [some (.ref 72), some (.ref c1), some (.int c2), some (.int c3), some (.int c4), some (.int v5)] [.int v7, .int (M9.i 72 31), .ref 72] (J v7 M11)) (fun v7 M11 => ?_) (fun j1 hj1 => ?_)
      · refine J_ior (pc := 154) dX3_goSay_154 ?_
        refine J_put (pc := 155) (a := 72) (v := .int ((M9.i 72 31) ||| v7)) (M' := M11.si 72 31 ((M9.i 72 31) ||| v7)) (c := 2) rfl in_X3 tyX3_ok fnX3 31 (by decide) q1138 rfl (Or.inl rfl) (fun h => sh_k1 h 52 rfl) (fun _ => rfl) (fun _ => rfl) ⟨⟨rfl, rfl⟩, rfl⟩ (fun _ hb => up2_same hb) (fun _ _ => rfl) (fun _ _ => rfl) (put_i (fun _ _ _ => rfl)) (fun h => Sh_si h) dX3_goSay_155 ?_
        refine J_ltM (fun M12 => ?_)
        refine J_iincL (pc := 158) (n := 1) (by decide) dX3_goSay_158 rfl (by decide) (fun v8 => ?_)
        refine J_goto (pc := 161) 81 dX3_goSay_161 rfl ?_
        exact J_sub (A := [some (.ref 72), some (.ref c1), some (.int c2), some (.int c3), some (.int c4), some (.int v8)]) ⟨rfl, ⟨rfl, ⟨rfl, ⟨rfl, ⟨rfl, ⟨rfl, trivial⟩⟩⟩⟩⟩⟩ (ih v8 M12)
      refine J_icmp_ne (pc := 103) 153 dX3_goSay_103 rfl (fun h => if_neg h) (fun h => if_pos h) (fun _ => ?_) (fun _ => ?_)
      · refine J_iconst (pc := 153) 0 dX3_goSay_153 (by decide) ?_
        exact J_sub (A := [some (.ref 72), some (.ref c1), some (.int c2), some (.int c3), some (.int c4), some (.int v5)]) ⟨rfl, ⟨rfl, ⟨rfl, ⟨rfl, ⟨rfl, ⟨rfl, trivial⟩⟩⟩⟩⟩⟩ (hj1 0 M10)
      · refine J_aload_n (pc := 106) dX3_goSay_106 rfl ?_
        refine J_iload (pc := 107) dX3_goSay_107 rfl ?_
        refine J_iconst (pc := 109) 2 dX3_goSay_109 (by decide) ?_
        refine J_callV (pc := 110) (n := 2) (b := 72) (vs := [.int v5, .int 2]) (ci := 2) (fun l => C_m_field l v5 2 M10) (lw_V q1418 q1420 qs83 q118 q1421) nmv_X3_field rfl (by omega) (by decide) rfl (fun h => sh_k1 h 52 rfl) rfl (Nat.le_of_ble_eq_true rfl) dX3_goSay_110 (fun v9 M13 => ?_)
        refine J_aload_n (pc := 113) dX3_goSay_113 rfl ?_
        refine J_iload_n (pc := 114) dX3_goSay_114 rfl ?_
        refine J_cka (fun h10 h102 => ?_)
        refine J_iald (pc := 115) (a := c1) (fun _ => ⟨h10, h102⟩) dX3_goSay_115 ?_
        refine J_icmp_ne (pc := 116) 153 dX3_goSay_116 rfl (fun h => if_neg h) (fun h => if_pos h) (fun _ => ?_) (fun _ => ?_)
        · refine J_iconst (pc := 153) 0 dX3_goSay_153 (by decide) ?_
          exact J_sub (A := [some (.ref 72), some (.ref c1), some (.int c2), some (.int c3), some (.int c4), some (.int v5)]) ⟨rfl, ⟨rfl, ⟨rfl, ⟨rfl, ⟨rfl, ⟨rfl, trivial⟩⟩⟩⟩⟩⟩ (hj1 0 M13)
        · refine J_aload_n (pc := 119) dX3_goSay_119 rfl ?_
          refine J_iload_n (pc := 120) dX3_goSay_120 rfl ?_
          refine J_aload_n (pc := 121) dX3_goSay_121 rfl ?_
          refine J_iload (pc := 122) dX3_goSay_122 rfl ?_
          refine J_iconst (pc := 124) 1 dX3_goSay_124 (by decide) ?_
          refine J_callV (pc := 125) (n := 2) (b := 72) (vs := [.int v5, .int 1]) (ci := 2) (fun l => C_m_field l v5 1 M13) (lw_V q1418 q1420 qs83 q118 q1421) nmv_X3_field rfl (by omega) (by decide) rfl (fun h => sh_k1 h 52 rfl) rfl (Nat.le_of_ble_eq_true rfl) dX3_goSay_125 (fun v10 M14 => ?_)
          refine J_callV (pc := 128) (n := 2) (b := 72) (vs := [.int c3, .int v10]) (ci := 2) (fun l => C_m_means l c3 v10 M14) (lw_V q1493 q1495 qs92 q118 q1496) nmv_X3_means rfl (by omega) (by decide) rfl (fun h => sh_k1 h 52 rfl) rfl (Nat.le_of_ble_eq_true rfl) dX3_goSay_128 (fun v11 M15 => ?_)
          refine J_if_eq (pc := 131) 153 dX3_goSay_131 rfl (fun h => if_pos h) (fun h => if_neg h) (fun _ => ?_) (fun _ => ?_)
          · refine J_iconst (pc := 153) 0 dX3_goSay_153 (by decide) ?_
            exact J_sub (A := [some (.ref 72), some (.ref c1), some (.int c2), some (.int c3), some (.int c4), some (.int v5)]) ⟨rfl, ⟨rfl, ⟨rfl, ⟨rfl, ⟨rfl, ⟨rfl, trivial⟩⟩⟩⟩⟩⟩ (hj1 0 M15)
          · refine J_aload_n (pc := 134) dX3_goSay_134 rfl ?_
            refine J_bipush (pc := 135) 13 dX3_goSay_135 (by decide) ?_
            refine J_cka (fun h11 h112 => ?_)
            refine J_iald (pc := 137) (a := c1) (fun _ => ⟨h11, h112⟩) dX3_goSay_137 ?_
            refine J_iload (pc := 138) dX3_goSay_138 rfl ?_
            refine J_callS (pc := 140) (n := 2) (vs := [.int (M15.i c1 (ix 13)), .int v5]) (fun l => C_m_has l (M15.i c1 (ix 13)) v5 M15) (lw_S q1422 q1423 q118 q1424) nmh_X3_has rfl (by omega) (by decide) rfl (Nat.le_of_ble_eq_true rfl) dX3_goSay_140 (fun v12 M16 => ?_)
            refine J_if_ne (pc := 143) 153 dX3_goSay_143 rfl (fun h => if_neg h) (fun h => if_pos h) (fun _ => ?_) (fun _ => ?_)
            · refine J_iconst (pc := 153) 0 dX3_goSay_153 (by decide) ?_
              exact J_sub (A := [some (.ref 72), some (.ref c1), some (.int c2), some (.int c3), some (.int c4), some (.int v5)]) ⟨rfl, ⟨rfl, ⟨rfl, ⟨rfl, ⟨rfl, ⟨rfl, trivial⟩⟩⟩⟩⟩⟩ (hj1 0 M16)
            · refine J_iconst (pc := 146) 1 dX3_goSay_146 (by decide) ?_
              refine J_iload (pc := 147) dX3_goSay_147 rfl ?_
              refine J_ishl (pc := 149) dX3_goSay_149 ?_
              refine J_goto (pc := 150) 154 dX3_goSay_150 rfl ?_
              exact J_sub (A := [some (.ref 72), some (.ref c1), some (.int c2), some (.int c3), some (.int c4), some (.int v5)]) ⟨rfl, ⟨rfl, ⟨rfl, ⟨rfl, ⟨rfl, ⟨rfl, trivial⟩⟩⟩⟩⟩⟩ (hj1 (1 <<< (v5 &&& 31)) M16)

def m_goSay (p1 : Nat) (p2 : Int32) (p3 : Int32) (M : PM) : Option (Int32 × PM) :=
    cka M p1 20 p2 <|
    cka M p1 20 12 <|
    bd (m_tollOf p3 (M.i p1 (ix p2)) (M.i p1 (ix 12)) M) fun v1 M1 =>
    cka M1 p1 20 (4 + p2) <|
    cka M1 p1 20 (4 + p2) <|
    lt (M1.si p1 (ix (4 + p2)) ((M1.i p1 (ix (4 + p2))) - v1)) fun M2 =>
    cka M2 p1 20 (8 + p2) <|
    cka M2 p1 20 (8 + p2) <|
    lt (M2.si p1 (ix (8 + p2)) ((M2.i p1 (ix (8 + p2))) + v1)) fun M3 =>
    m_goSay_L38 p1 p2 p3 v1 (fun (M7 : PM) =>
    lt (M7.si 72 31 0) fun M8 =>
    m_goSay_L81 p1 p2 p3 v1 (fun (M17 : PM) =>
    cka M17 p1 20 13 <|
    cka M17 p1 20 13 <|
    lt (M17.si p1 (ix 13) ((M17.i p1 (ix 13)) ||| (M17.i 72 31))) fun M18 =>
    some (v1, M18)) FU 0 M8) FU 0 M3

set_option maxHeartbeats 4000000 in
theorem t_m_goSay (G : JG) (p1 : Nat) (p2 : Int32) (p3 : Int32) (M : PM) : T_m_goSay G  M 0 (ent [.ref 72, .ref p1, .int p2, .int p3] 6) [] (m_goSay p1 p2 p3 M) := by
  unfold m_goSay
  refine J_aload_n (pc := 0) dX3_goSay_0 rfl ?_
  refine J_iload_n (pc := 1) dX3_goSay_1 rfl ?_
  refine J_aload_n (pc := 2) dX3_goSay_2 rfl ?_
  refine J_iload_n (pc := 3) dX3_goSay_3 rfl ?_
  refine J_cka (fun h1 h12 => ?_)
  refine J_iald (pc := 4) (a := p1) (fun _ => ⟨h1, h12⟩) dX3_goSay_4 ?_
  refine J_aload_n (pc := 5) dX3_goSay_5 rfl ?_
  refine J_bipush (pc := 6) 12 dX3_goSay_6 (by decide) ?_
  refine J_cka (fun h2 h22 => ?_)
  refine J_iald (pc := 8) (a := p1) (fun _ => ⟨h2, h22⟩) dX3_goSay_8 ?_
  refine J_callV (pc := 9) (n := 3) (b := 72) (vs := [.int p3, .int (M.i p1 (ix p2)), .int (M.i p1 (ix 12))]) (ci := 2) (fun l => C_m_tollOf l p3 (M.i p1 (ix p2)) (M.i p1 (ix 12)) M) (lw_V q1451 q1453 qs86 q118 q1454) nmv_X3_tollOf rfl (by omega) (by decide) rfl (fun h => sh_k1 h 52 rfl) rfl (Nat.le_of_ble_eq_true rfl) dX3_goSay_9 (fun v1 M1 => ?_)
  refine J_istore (pc := 12) dX3_goSay_12 (by decide) ?_
  refine J_aload_n (pc := 14) dX3_goSay_14 rfl ?_
  refine J_iconst (pc := 15) 4 dX3_goSay_15 (by decide) ?_
  refine J_iload_n (pc := 16) dX3_goSay_16 rfl ?_
  refine J_iadd (pc := 17) dX3_goSay_17 ?_
  refine J_dup2 (pc := 18) dX3_goSay_18 rfl rfl ?_
  refine J_cka (fun h3 h32 => ?_)
  refine J_iald (pc := 19) (a := p1) (fun _ => ⟨h3, h32⟩) dX3_goSay_19 ?_
  refine J_iload (pc := 20) dX3_goSay_20 rfl ?_
  refine J_isub (pc := 22) dX3_goSay_22 ?_
  refine J_cka (fun h4 h42 => ?_)
  refine J_iast (pc := 23) (a := p1) (fun _ => ⟨h4, h42⟩) (fun h => Sh_si h) dX3_goSay_23 ?_
  refine J_ltM (fun M2 => ?_)
  refine J_aload_n (pc := 24) dX3_goSay_24 rfl ?_
  refine J_bipush (pc := 25) 8 dX3_goSay_25 (by decide) ?_
  refine J_iload_n (pc := 27) dX3_goSay_27 rfl ?_
  refine J_iadd (pc := 28) dX3_goSay_28 ?_
  refine J_dup2 (pc := 29) dX3_goSay_29 rfl rfl ?_
  refine J_cka (fun h5 h52 => ?_)
  refine J_iald (pc := 30) (a := p1) (fun _ => ⟨h5, h52⟩) dX3_goSay_30 ?_
  refine J_iload (pc := 31) dX3_goSay_31 rfl ?_
  refine J_iadd (pc := 33) dX3_goSay_33 ?_
  refine J_cka (fun h6 h62 => ?_)
  refine J_iast (pc := 34) (a := p1) (fun _ => ⟨h6, h62⟩) (fun h => Sh_si h) dX3_goSay_34 ?_
  refine J_ltM (fun M3 => ?_)
  refine J_iconst (pc := 35) 0 dX3_goSay_35 (by decide) ?_
  refine J_istore (pc := 36) dX3_goSay_36 (by decide) ?_
  refine J_sub (A := [some (.ref 72), some (.ref p1), some (.int p2), some (.int p3), some (.int v1), some (.int 0)]) ⟨rfl, ⟨rfl, ⟨rfl, ⟨rfl, ⟨rfl, ⟨rfl, trivial⟩⟩⟩⟩⟩⟩ (t_m_goSay_L38 G p1 p2 p3 v1 _ ?_ FU 0 M3)
  · intro M7
    refine J_aload_n (pc := 73) dX3_goSay_73 rfl ?_
    refine J_iconst (pc := 74) 0 dX3_goSay_74 (by decide) ?_
    refine J_put (pc := 75) (a := 72) (v := .int 0) (M' := M7.si 72 31 0) (c := 2) rfl in_X3 tyX3_ok fnX3 31 (by decide) q1138 rfl (Or.inl rfl) (fun h => sh_k1 h 52 rfl) (fun _ => rfl) (fun _ => rfl) ⟨⟨rfl, rfl⟩, rfl⟩ (fun _ hb => up2_same hb) (fun _ _ => rfl) (fun _ _ => rfl) (put_i (fun _ _ _ => rfl)) (fun h => Sh_si h) dX3_goSay_75 ?_
    refine J_ltM (fun M8 => ?_)
    refine J_iconst (pc := 78) 0 dX3_goSay_78 (by decide) ?_
    refine J_istore (pc := 79) dX3_goSay_79 (by decide) ?_
    refine J_sub (A := [some (.ref 72), some (.ref p1), some (.int p2), some (.int p3), some (.int v1), some (.int 0)]) ⟨rfl, ⟨rfl, ⟨rfl, ⟨rfl, ⟨rfl, ⟨rfl, trivial⟩⟩⟩⟩⟩⟩ (t_m_goSay_L81 G p1 p2 p3 v1 _ ?_ FU 0 M8)
    · intro M17
      refine J_aload_n (pc := 164) dX3_goSay_164 rfl ?_
      refine J_bipush (pc := 165) 13 dX3_goSay_165 (by decide) ?_
      refine J_dup2 (pc := 167) dX3_goSay_167 rfl rfl ?_
      refine J_cka (fun h12 h122 => ?_)
      refine J_iald (pc := 168) (a := p1) (fun _ => ⟨h12, h122⟩) dX3_goSay_168 ?_
      refine J_aload_n (pc := 169) dX3_goSay_169 rfl ?_
      refine J_get (pc := 170) (c := 2) (.int (M17.i 72 31)) rfl in_X3 31 (by decide) q1138 rfl (fun h => sh_k1 h 52 rfl) (fun _ _ => rfl) dX3_goSay_170 ?_
      refine J_ior (pc := 173) dX3_goSay_173 ?_
      refine J_cka (fun h13 h132 => ?_)
      refine J_iast (pc := 174) (a := p1) (fun _ => ⟨h13, h132⟩) (fun h => Sh_si h) dX3_goSay_174 ?_
      refine J_ltM (fun M18 => ?_)
      refine J_iload (pc := 175) dX3_goSay_175 rfl ?_
      exact J_iret (pc := 177) dX3_goSay_177

theorem C_m_goSay (l : Launch) (p1 : Nat) (p2 : Int32) (p3 : Int32) (M : PM) : Ctr l Sh yX3_goSay cX3_goSay 6 (some .int) 142 rvI [.ref 72, .ref p1, .int p2, .int p3] M (m_goSay p1 p2 p3 M) := Ctr.of (by decide +kernel) (Nat.le_of_ble_eq_true rfl) (fun G => t_m_goSay G p1 p2 p3 M)

abbrev T_m_refusesSay (G : JG) (M : PM) (pc : Nat) (L : List (Option Value)) (S : List Value) (o : Option (Int32 × PM)) : Prop := JJ G cX3_refusesSay yX3_refusesSay 4 142 (some .int) Sh (finR G Sh rvI) M pc L S o
def m_refusesSay (p1 : Nat) (p2 : Int32) (p3 : Int32) (M : PM) : Option (Int32 × PM) :=
    bd (m_isOne p2 M) fun v1 M1 =>
    if v1 = 0 then (some ((-1), M1))
    else (bd (m_isWord p3 M1) fun v2 M2 =>
    if v2 = 0 then (some ((-1), M2))
    else (cka M2 p1 20 (4 + p2) <|
    cka M2 p1 20 p2 <|
    cka M2 p1 20 12 <|
    bd (m_tollOf p3 (M2.i p1 (ix p2)) (M2.i p1 (ix 12)) M2) fun v3 M3 =>
    if v3 ≤ (M2.i p1 (ix (4 + p2))) then (some (0, M3))
    else (some ((-2), M3))))

set_option maxHeartbeats 4000000 in
theorem t_m_refusesSay (G : JG) (p1 : Nat) (p2 : Int32) (p3 : Int32) (M : PM) : T_m_refusesSay G  M 0 (ent [.ref 72, .ref p1, .int p2, .int p3] 4) [] (m_refusesSay p1 p2 p3 M) := by
  unfold m_refusesSay
  refine J_aload_n (pc := 0) dX3_refusesSay_0 rfl ?_
  refine J_iload_n (pc := 1) dX3_refusesSay_1 rfl ?_
  refine J_callV (pc := 2) (n := 1) (b := 72) (vs := [.int p2]) (ci := 2) (fun l => C_m_isOne l p2 M) (lw_V q1410 q1412 qs81 q118 q1413) nmv_X3_isOne rfl (by omega) (by decide) rfl (fun h => sh_k1 h 52 rfl) rfl (Nat.le_of_ble_eq_true rfl) dX3_refusesSay_2 (fun v1 M1 => ?_)
  refine J_if_eq (pc := 5) 16 dX3_refusesSay_5 rfl (fun h => if_pos h) (fun h => if_neg h) (fun _ => ?_) (fun _ => ?_)
  · refine J_iconst (pc := 16) (-1) dX3_refusesSay_16 (by decide) ?_
    exact J_iret (pc := 17) dX3_refusesSay_17
  · refine J_aload_n (pc := 8) dX3_refusesSay_8 rfl ?_
    refine J_iload_n (pc := 9) dX3_refusesSay_9 rfl ?_
    refine J_callV (pc := 10) (n := 1) (b := 72) (vs := [.int p3]) (ci := 2) (fun l => C_m_isWord l p3 M1) (lw_V q1383 q1385 qs76 q118 q1386) nmv_X3_isWord rfl (by omega) (by decide) rfl (fun h => sh_k1 h 52 rfl) rfl (Nat.le_of_ble_eq_true rfl) dX3_refusesSay_10 (fun v2 M2 => ?_)
    refine J_if_ne (pc := 13) 18 dX3_refusesSay_13 rfl (fun h => if_neg h) (fun h => if_pos h) (fun _ => ?_) (fun _ => ?_)
    · refine J_aload_n (pc := 18) dX3_refusesSay_18 rfl ?_
      refine J_iconst (pc := 19) 4 dX3_refusesSay_19 (by decide) ?_
      refine J_iload_n (pc := 20) dX3_refusesSay_20 rfl ?_
      refine J_iadd (pc := 21) dX3_refusesSay_21 ?_
      refine J_cka (fun h1 h12 => ?_)
      refine J_iald (pc := 22) (a := p1) (fun _ => ⟨h1, h12⟩) dX3_refusesSay_22 ?_
      refine J_aload_n (pc := 23) dX3_refusesSay_23 rfl ?_
      refine J_iload_n (pc := 24) dX3_refusesSay_24 rfl ?_
      refine J_aload_n (pc := 25) dX3_refusesSay_25 rfl ?_
      refine J_iload_n (pc := 26) dX3_refusesSay_26 rfl ?_
      refine J_cka (fun h2 h22 => ?_)
      refine J_iald (pc := 27) (a := p1) (fun _ => ⟨h2, h22⟩) dX3_refusesSay_27 ?_
      refine J_aload_n (pc := 28) dX3_refusesSay_28 rfl ?_
      refine J_bipush (pc := 29) 12 dX3_refusesSay_29 (by decide) ?_
      refine J_cka (fun h3 h32 => ?_)
      refine J_iald (pc := 31) (a := p1) (fun _ => ⟨h3, h32⟩) dX3_refusesSay_31 ?_
      refine J_callV (pc := 32) (n := 3) (b := 72) (vs := [.int p3, .int (M2.i p1 (ix p2)), .int (M2.i p1 (ix 12))]) (ci := 2) (fun l => C_m_tollOf l p3 (M2.i p1 (ix p2)) (M2.i p1 (ix 12)) M2) (lw_V q1451 q1453 qs86 q118 q1454) nmv_X3_tollOf rfl (by omega) (by decide) rfl (fun h => sh_k1 h 52 rfl) rfl (Nat.le_of_ble_eq_true rfl) dX3_refusesSay_32 (fun v3 M3 => ?_)
      refine J_icmp_ge (pc := 35) 43 dX3_refusesSay_35 rfl (fun h => if_pos h) (fun h => if_neg h) (fun _ => ?_) (fun _ => ?_)
      · refine J_iconst (pc := 43) 0 dX3_refusesSay_43 (by decide) ?_
        exact J_iret (pc := 44) dX3_refusesSay_44
      · refine J_bipush (pc := 38) (-2) dX3_refusesSay_38 (by decide) ?_
        refine J_goto (pc := 40) 44 dX3_refusesSay_40 rfl ?_
        exact J_iret (pc := 44) dX3_refusesSay_44
    · refine J_iconst (pc := 16) (-1) dX3_refusesSay_16 (by decide) ?_
      exact J_iret (pc := 17) dX3_refusesSay_17

theorem C_m_refusesSay (l : Launch) (p1 : Nat) (p2 : Int32) (p3 : Int32) (M : PM) : Ctr l Sh yX3_refusesSay cX3_refusesSay 4 (some .int) 142 rvI [.ref 72, .ref p1, .int p2, .int p3] M (m_refusesSay p1 p2 p3 M) := Ctr.of (by decide +kernel) (Nat.le_of_ble_eq_true rfl) (fun G => t_m_refusesSay G p1 p2 p3 M)

abbrev T_m_say (G : JG) (M : PM) (pc : Nat) (L : List (Option Value)) (S : List Value) (o : Option (Int32 × PM)) : Prop := JJ G cX3_say yX3_say 5 143 (some .int) Sh (finR G Sh rvI) M pc L S o
def m_say (p1 : Int32) (p2 : Int32) (M : PM) : Option (Int32 × PM) :=
    lt (M.si 72 13 0) fun M1 =>
    bd (m_refusesSay 73 p1 p2 M1) fun v1 M2 =>
    if 0 ≤ v1 then (bd (m_remember 73 M2) fun _ M3 =>
    bd (m_goSay 73 p1 p2 M3) fun v2 M4 =>
    lt (M4.si 72 12 0) fun M5 =>
    bd (m_tell (Int32.toInt64 (M5.i 72 31)) M5) fun _ M6 =>
    some (v2, M6))
    else (some (v1, M2))

set_option maxHeartbeats 4000000 in
theorem t_m_say (G : JG) (p1 : Int32) (p2 : Int32) (M : PM) : T_m_say G  M 0 (ent [.ref 72, .int p1, .int p2] 5) [] (m_say p1 p2 M) := by
  unfold m_say
  refine J_aload_n (pc := 0) dX3_say_0 rfl ?_
  refine J_iconst (pc := 1) 0 dX3_say_1 (by decide) ?_
  refine J_put (pc := 2) (a := 72) (v := .int 0) (M' := M.si 72 13 0) (c := 2) rfl in_X3 tyX3_ok fnX3 13 (by decide) q1120 rfl (Or.inl rfl) (fun h => sh_k1 h 52 rfl) (fun _ => rfl) (fun _ => rfl) ⟨⟨rfl, rfl⟩, rfl⟩ (fun _ hb => up2_same hb) (fun _ _ => rfl) (fun _ _ => rfl) (put_i (fun _ _ _ => rfl)) (fun h => Sh_si h) dX3_say_2 ?_
  refine J_ltM (fun M1 => ?_)
  refine J_aload_n (pc := 5) dX3_say_5 rfl ?_
  refine J_aload_n (pc := 6) dX3_say_6 rfl ?_
  refine J_get (pc := 7) (c := 2) (.ref 73) rfl in_X3 0 (by decide) q1107 rfl (fun h => sh_k1 h 52 rfl) (fun h _ => fv_ref (Or.inr ⟨_, rfl⟩) (sh_r h 51 rfl)) dX3_say_7 ?_
  refine J_iload_n (pc := 10) dX3_say_10 rfl ?_
  refine J_iload_n (pc := 11) dX3_say_11 rfl ?_
  refine J_callV (pc := 12) (n := 3) (b := 72) (vs := [.ref 73, .int p1, .int p2]) (ci := 2) (fun l => C_m_refusesSay l 73 p1 p2 M1) (lw_V q1485 q1487 qs90 q118 q1488) nmv_X3_refusesSay rfl (by omega) (by decide) rfl (fun h => sh_k1 h 52 rfl) rfl (Nat.le_of_ble_eq_true rfl) dX3_say_12 (fun v1 M2 => ?_)
  refine J_istore_n (pc := 15) dX3_say_15 (by decide) ?_
  refine J_iload_n (pc := 16) dX3_say_16 rfl ?_
  refine J_if_ge (pc := 17) 22 dX3_say_17 rfl (fun h => if_pos h) (fun h => if_neg h) (fun _ => ?_) (fun _ => ?_)
  · refine J_aload_n (pc := 22) dX3_say_22 rfl ?_
    refine J_aload_n (pc := 23) dX3_say_23 rfl ?_
    refine J_get (pc := 24) (c := 2) (.ref 73) rfl in_X3 0 (by decide) q1107 rfl (fun h => sh_k1 h 52 rfl) (fun h _ => fv_ref (Or.inr ⟨_, rfl⟩) (sh_r h 51 rfl)) dX3_say_24 ?_
    refine J_callV (pc := 27) (n := 1) (b := 72) (vs := [.ref 73]) (ci := 2) (fun l => C_m_remember l 73 M2) (lw_V q1467 q1469 qs89 q118 q1470) nmv_X3_remember rfl (by omega) (by decide) rfl (fun h => sh_k1 h 52 rfl) rfl (Nat.le_of_ble_eq_true rfl) dX3_say_27 (fun _ M3 => ?_)
    refine J_aload_n (pc := 30) dX3_say_30 rfl ?_
    refine J_aload_n (pc := 31) dX3_say_31 rfl ?_
    refine J_get (pc := 32) (c := 2) (.ref 73) rfl in_X3 0 (by decide) q1107 rfl (fun h => sh_k1 h 52 rfl) (fun h _ => fv_ref (Or.inr ⟨_, rfl⟩) (sh_r h 51 rfl)) dX3_say_32 ?_
    refine J_iload_n (pc := 35) dX3_say_35 rfl ?_
    refine J_iload_n (pc := 36) dX3_say_36 rfl ?_
    refine J_callV (pc := 37) (n := 3) (b := 72) (vs := [.ref 73, .int p1, .int p2]) (ci := 2) (fun l => C_m_goSay l 73 p1 p2 M3) (lw_V q1489 q1491 qs91 q118 q1492) nmv_X3_goSay rfl (by omega) (by decide) rfl (fun h => sh_k1 h 52 rfl) rfl (Nat.le_of_ble_eq_true rfl) dX3_say_37 (fun v2 M4 => ?_)
    refine J_istore (pc := 40) dX3_say_40 (by decide) ?_
    refine J_aload_n (pc := 42) dX3_say_42 rfl ?_
    refine J_iconst (pc := 43) 0 dX3_say_43 (by decide) ?_
    refine J_put (pc := 44) (a := 72) (v := .int 0) (M' := M4.si 72 12 0) (c := 2) rfl in_X3 tyX3_ok fnX3 12 (by decide) q1119 rfl (Or.inl rfl) (fun h => sh_k1 h 52 rfl) (fun _ => rfl) (fun _ => rfl) ⟨⟨rfl, rfl⟩, rfl⟩ (fun _ hb => up2_same hb) (fun _ _ => rfl) (fun _ _ => rfl) (put_i (fun _ _ _ => rfl)) (fun h => Sh_si h) dX3_say_44 ?_
    refine J_ltM (fun M5 => ?_)
    refine J_aload_n (pc := 47) dX3_say_47 rfl ?_
    refine J_aload_n (pc := 48) dX3_say_48 rfl ?_
    refine J_get (pc := 49) (c := 2) (.int (M5.i 72 31)) rfl in_X3 31 (by decide) q1138 rfl (fun h => sh_k1 h 52 rfl) (fun _ _ => rfl) dX3_say_49 ?_
    refine J_i2l (pc := 52) dX3_say_52 ?_
    refine J_callV (pc := 53) (n := 1) (b := 72) (vs := [.long (Int32.toInt64 (M5.i 72 31))]) (ci := 2) (fun l => C_m_tell l (Int32.toInt64 (M5.i 72 31)) M5) (lw_V q1455 q1457 qs87 q118 q1458) nmv_X3_tell rfl (by omega) (by decide) rfl (fun h => sh_k1 h 52 rfl) rfl (Nat.le_of_ble_eq_true rfl) dX3_say_53 (fun _ M6 => ?_)
    refine J_iload (pc := 56) dX3_say_56 rfl ?_
    exact J_iret (pc := 58) dX3_say_58
  · refine J_iload_n (pc := 20) dX3_say_20 rfl ?_
    exact J_iret (pc := 21) dX3_say_21

theorem C_m_say (l : Launch) (p1 : Int32) (p2 : Int32) (M : PM) : Ctr l Sh yX3_say cX3_say 5 (some .int) 143 rvI [.ref 72, .int p1, .int p2] M (m_say p1 p2 M) := Ctr.of (by decide +kernel) (Nat.le_of_ble_eq_true rfl) (fun G => t_m_say G p1 p2 M)

abbrev T_m_alms (G : JG) (M : PM) (pc : Nat) (L : List (Option Value)) (S : List Value) (o : Option (Int32 × PM)) : Prop := JJ G cX3_alms yX3_alms 4 3 (some .int) Sh (finR G Sh rvI) M pc L S o
def m_alms (p1 : Int32) (p2 : Int32) (p3 : Int32) (M : PM) : Option (Int32 × PM) :=
    lt (M.si 72 13 0) fun M1 =>
    bd (m_isOne p1 M1) fun v1 M2 =>
    if v1 = 0 then (some ((-1), M2))
    else (bd (m_isOne p2 M2) fun v2 M3 =>
    if v2 = 0 then (some ((-1), M3))
    else (if p1 = p2 then (some ((-1), M3))
    else (bd (m_in p3 1 9999 M3) fun v3 M4 =>
    if v3 = 0 then (some ((-1), M4))
    else (ck p1 44 <|
    ck p2 44 <|
    if (M4.i 73 (ix p1)) = (M4.i 73 (ix p2)) then (ck (4 + p1) 44 <|
    if p3 ≤ (M4.i 73 (ix (4 + p1))) then (bd (m_remember 73 M4) fun _ M5 =>
    ck (4 + p1) 44 <|
    ck (4 + p1) 44 <|
    lt (M5.si 73 (ix (4 + p1)) ((M5.i 73 (ix (4 + p1))) - p3)) fun M6 =>
    ck (4 + p2) 44 <|
    ck (4 + p2) 44 <|
    lt (M6.si 73 (ix (4 + p2)) (imin 9999 ((M6.i 73 (ix (4 + p2))) + p3))) fun M7 =>
    ck (4 + p2) 44 <|
    some ((M7.i 73 (ix (4 + p2))), M7))
    else (some ((-2), M4)))
    else (some ((-3), M4))))))

set_option maxHeartbeats 4000000 in
theorem t_m_alms (G : JG) (p1 : Int32) (p2 : Int32) (p3 : Int32) (M : PM) : T_m_alms G  M 0 (ent [.ref 72, .int p1, .int p2, .int p3] 4) [] (m_alms p1 p2 p3 M) := by
  unfold m_alms
  refine J_aload_n (pc := 0) dX3_alms_0 rfl ?_
  refine J_iconst (pc := 1) 0 dX3_alms_1 (by decide) ?_
  refine J_put (pc := 2) (a := 72) (v := .int 0) (M' := M.si 72 13 0) (c := 2) rfl in_X3 tyX3_ok fnX3 13 (by decide) q1120 rfl (Or.inl rfl) (fun h => sh_k1 h 52 rfl) (fun _ => rfl) (fun _ => rfl) ⟨⟨rfl, rfl⟩, rfl⟩ (fun _ hb => up2_same hb) (fun _ _ => rfl) (fun _ _ => rfl) (put_i (fun _ _ _ => rfl)) (fun h => Sh_si h) dX3_alms_2 ?_
  refine J_ltM (fun M1 => ?_)
  refine J_aload_n (pc := 5) dX3_alms_5 rfl ?_
  refine J_iload_n (pc := 6) dX3_alms_6 rfl ?_
  refine J_callV (pc := 7) (n := 1) (b := 72) (vs := [.int p1]) (ci := 2) (fun l => C_m_isOne l p1 M1) (lw_V q1410 q1412 qs81 q118 q1413) nmv_X3_isOne rfl (by omega) (by decide) rfl (fun h => sh_k1 h 52 rfl) rfl (Nat.le_of_ble_eq_true rfl) dX3_alms_7 (fun v1 M2 => ?_)
  refine J_if_eq (pc := 10) 37 dX3_alms_10 rfl (fun h => if_pos h) (fun h => if_neg h) (fun _ => ?_) (fun _ => ?_)
  · refine J_iconst (pc := 37) (-1) dX3_alms_37 (by decide) ?_
    exact J_iret (pc := 38) dX3_alms_38
  · refine J_aload_n (pc := 13) dX3_alms_13 rfl ?_
    refine J_iload_n (pc := 14) dX3_alms_14 rfl ?_
    refine J_callV (pc := 15) (n := 1) (b := 72) (vs := [.int p2]) (ci := 2) (fun l => C_m_isOne l p2 M2) (lw_V q1410 q1412 qs81 q118 q1413) nmv_X3_isOne rfl (by omega) (by decide) rfl (fun h => sh_k1 h 52 rfl) rfl (Nat.le_of_ble_eq_true rfl) dX3_alms_15 (fun v2 M3 => ?_)
    refine J_if_eq (pc := 18) 37 dX3_alms_18 rfl (fun h => if_pos h) (fun h => if_neg h) (fun _ => ?_) (fun _ => ?_)
    · refine J_iconst (pc := 37) (-1) dX3_alms_37 (by decide) ?_
      exact J_iret (pc := 38) dX3_alms_38
    · refine J_iload_n (pc := 21) dX3_alms_21 rfl ?_
      refine J_iload_n (pc := 22) dX3_alms_22 rfl ?_
      refine J_icmp_eq (pc := 23) 37 dX3_alms_23 rfl (fun h => if_pos h) (fun h => if_neg h) (fun _ => ?_) (fun _ => ?_)
      · refine J_iconst (pc := 37) (-1) dX3_alms_37 (by decide) ?_
        exact J_iret (pc := 38) dX3_alms_38
      · refine J_iload_n (pc := 26) dX3_alms_26 rfl ?_
        refine J_iconst (pc := 27) 1 dX3_alms_27 (by decide) ?_
        refine J_sipush (pc := 28) 9999 dX3_alms_28 (by decide) ?_
        refine J_callS (pc := 31) (n := 3) (vs := [.int p3, .int 1, .int 9999]) (fun l => C_m_in l p3 1 9999 M3) (lw_S q1289 q1290 q118 q1291) nmh_X3_in rfl (by omega) (by decide) rfl (Nat.le_of_ble_eq_true rfl) dX3_alms_31 (fun v3 M4 => ?_)
        refine J_if_ne (pc := 34) 39 dX3_alms_34 rfl (fun h => if_neg h) (fun h => if_pos h) (fun _ => ?_) (fun _ => ?_)
        · refine J_aload_n (pc := 39) dX3_alms_39 rfl ?_
          refine J_get (pc := 40) (c := 2) (.ref 73) rfl in_X3 0 (by decide) q1107 rfl (fun h => sh_k1 h 52 rfl) (fun h _ => fv_ref (Or.inr ⟨_, rfl⟩) (sh_r h 51 rfl)) dX3_alms_40 ?_
          refine J_iload_n (pc := 43) dX3_alms_43 rfl ?_
          refine J_ck (fun h1 => ?_)
          refine J_iald (pc := 44) (a := 73) (fun h => sh_a h 53 rfl h1) dX3_alms_44 ?_
          refine J_aload_n (pc := 45) dX3_alms_45 rfl ?_
          refine J_get (pc := 46) (c := 2) (.ref 73) rfl in_X3 0 (by decide) q1107 rfl (fun h => sh_k1 h 52 rfl) (fun h _ => fv_ref (Or.inr ⟨_, rfl⟩) (sh_r h 51 rfl)) dX3_alms_46 ?_
          refine J_iload_n (pc := 49) dX3_alms_49 rfl ?_
          refine J_ck (fun h2 => ?_)
          refine J_iald (pc := 50) (a := 73) (fun h => sh_a h 53 rfl h2) dX3_alms_50 ?_
          refine J_icmp_eq (pc := 51) 57 dX3_alms_51 rfl (fun h => if_pos h) (fun h => if_neg h) (fun _ => ?_) (fun _ => ?_)
          · refine J_aload_n (pc := 57) dX3_alms_57 rfl ?_
            refine J_get (pc := 58) (c := 2) (.ref 73) rfl in_X3 0 (by decide) q1107 rfl (fun h => sh_k1 h 52 rfl) (fun h _ => fv_ref (Or.inr ⟨_, rfl⟩) (sh_r h 51 rfl)) dX3_alms_58 ?_
            refine J_iconst (pc := 61) 4 dX3_alms_61 (by decide) ?_
            refine J_iload_n (pc := 62) dX3_alms_62 rfl ?_
            refine J_iadd (pc := 63) dX3_alms_63 ?_
            refine J_ck (fun h3 => ?_)
            refine J_iald (pc := 64) (a := 73) (fun h => sh_a h 53 rfl h3) dX3_alms_64 ?_
            refine J_iload_n (pc := 65) dX3_alms_65 rfl ?_
            refine J_icmp_ge (pc := 66) 72 dX3_alms_66 rfl (fun h => if_pos h) (fun h => if_neg h) (fun _ => ?_) (fun _ => ?_)
            · refine J_aload_n (pc := 72) dX3_alms_72 rfl ?_
              refine J_aload_n (pc := 73) dX3_alms_73 rfl ?_
              refine J_get (pc := 74) (c := 2) (.ref 73) rfl in_X3 0 (by decide) q1107 rfl (fun h => sh_k1 h 52 rfl) (fun h _ => fv_ref (Or.inr ⟨_, rfl⟩) (sh_r h 51 rfl)) dX3_alms_74 ?_
              refine J_callV (pc := 77) (n := 1) (b := 72) (vs := [.ref 73]) (ci := 2) (fun l => C_m_remember l 73 M4) (lw_V q1467 q1469 qs89 q118 q1470) nmv_X3_remember rfl (by omega) (by decide) rfl (fun h => sh_k1 h 52 rfl) rfl (Nat.le_of_ble_eq_true rfl) dX3_alms_77 (fun _ M5 => ?_)
              refine J_aload_n (pc := 80) dX3_alms_80 rfl ?_
              refine J_get (pc := 81) (c := 2) (.ref 73) rfl in_X3 0 (by decide) q1107 rfl (fun h => sh_k1 h 52 rfl) (fun h _ => fv_ref (Or.inr ⟨_, rfl⟩) (sh_r h 51 rfl)) dX3_alms_81 ?_
              refine J_iconst (pc := 84) 4 dX3_alms_84 (by decide) ?_
              refine J_iload_n (pc := 85) dX3_alms_85 rfl ?_
              refine J_iadd (pc := 86) dX3_alms_86 ?_
              refine J_dup2 (pc := 87) dX3_alms_87 rfl rfl ?_
              refine J_ck (fun h4 => ?_)
              refine J_iald (pc := 88) (a := 73) (fun h => sh_a h 53 rfl h4) dX3_alms_88 ?_
              refine J_iload_n (pc := 89) dX3_alms_89 rfl ?_
              refine J_isub (pc := 90) dX3_alms_90 ?_
              refine J_ck (fun h5 => ?_)
              refine J_iast (pc := 91) (a := 73) (fun h => sh_a h 53 rfl h5) (fun h => Sh_si h) dX3_alms_91 ?_
              refine J_ltM (fun M6 => ?_)
              refine J_aload_n (pc := 92) dX3_alms_92 rfl ?_
              refine J_get (pc := 93) (c := 2) (.ref 73) rfl in_X3 0 (by decide) q1107 rfl (fun h => sh_k1 h 52 rfl) (fun h _ => fv_ref (Or.inr ⟨_, rfl⟩) (sh_r h 51 rfl)) dX3_alms_93 ?_
              refine J_iconst (pc := 96) 4 dX3_alms_96 (by decide) ?_
              refine J_iload_n (pc := 97) dX3_alms_97 rfl ?_
              refine J_iadd (pc := 98) dX3_alms_98 ?_
              refine J_sipush (pc := 99) 9999 dX3_alms_99 (by decide) ?_
              refine J_aload_n (pc := 102) dX3_alms_102 rfl ?_
              refine J_get (pc := 103) (c := 2) (.ref 73) rfl in_X3 0 (by decide) q1107 rfl (fun h => sh_k1 h 52 rfl) (fun h _ => fv_ref (Or.inr ⟨_, rfl⟩) (sh_r h 51 rfl)) dX3_alms_103 ?_
              refine J_iconst (pc := 106) 4 dX3_alms_106 (by decide) ?_
              refine J_iload_n (pc := 107) dX3_alms_107 rfl ?_
              refine J_iadd (pc := 108) dX3_alms_108 ?_
              refine J_ck (fun h6 => ?_)
              refine J_iald (pc := 109) (a := 73) (fun h => sh_a h 53 rfl h6) dX3_alms_109 ?_
              refine J_iload_n (pc := 110) dX3_alms_110 rfl ?_
              refine J_iadd (pc := 111) dX3_alms_111 ?_
              refine J_min (pc := 112) (by omega) q1441 q410 q119 q411 (Nat.le_of_ble_eq_true rfl) dX3_alms_112 ?_
              refine J_ck (fun h7 => ?_)
              refine J_iast (pc := 115) (a := 73) (fun h => sh_a h 53 rfl h7) (fun h => Sh_si h) dX3_alms_115 ?_
              refine J_ltM (fun M7 => ?_)
              refine J_aload_n (pc := 116) dX3_alms_116 rfl ?_
              refine J_get (pc := 117) (c := 2) (.ref 73) rfl in_X3 0 (by decide) q1107 rfl (fun h => sh_k1 h 52 rfl) (fun h _ => fv_ref (Or.inr ⟨_, rfl⟩) (sh_r h 51 rfl)) dX3_alms_117 ?_
              refine J_iconst (pc := 120) 4 dX3_alms_120 (by decide) ?_
              refine J_iload_n (pc := 121) dX3_alms_121 rfl ?_
              refine J_iadd (pc := 122) dX3_alms_122 ?_
              refine J_ck (fun h8 => ?_)
              refine J_iald (pc := 123) (a := 73) (fun h => sh_a h 53 rfl h8) dX3_alms_123 ?_
              exact J_iret (pc := 124) dX3_alms_124
            · refine J_bipush (pc := 69) (-2) dX3_alms_69 (by decide) ?_
              exact J_iret (pc := 71) dX3_alms_71
          · refine J_bipush (pc := 54) (-3) dX3_alms_54 (by decide) ?_
            exact J_iret (pc := 56) dX3_alms_56
        · refine J_iconst (pc := 37) (-1) dX3_alms_37 (by decide) ?_
          exact J_iret (pc := 38) dX3_alms_38

theorem C_m_alms (l : Launch) (p1 : Int32) (p2 : Int32) (p3 : Int32) (M : PM) : Ctr l Sh yX3_alms cX3_alms 4 (some .int) 3 rvI [.ref 72, .int p1, .int p2, .int p3] M (m_alms p1 p2 p3 M) := Ctr.of (by decide +kernel) (Nat.le_of_ble_eq_true rfl) (fun G => t_m_alms G p1 p2 p3 M)

abbrev T_m_cheapestOf (G : JG) (M : PM) (pc : Nat) (L : List (Option Value)) (S : List Value) (o : Option (Int32 × PM)) : Prop := JJ G cX3_cheapestOf yX3_cheapestOf 5 143 (some .int) Sh (finR G Sh rvI) M pc L S o
def m_cheapestOf_L5 (c1 : Int32) (c2 : Int32) : Nat → Int32 → Int32 → PM → Option (Int32 × PM)
  | 0, _, _, _ => none
  | n + 1, v1, v2, M1 =>
    if (M1.i 72 2) ≤ v2 then (some (v1, M1))
    else (bd (m_means v2 c1 M1) fun v3 M2 =>
    jn (fun (v4 : Int32) (M3 : PM) =>
    lt (v2 + 1) fun v5 =>
    m_cheapestOf_L5 c1 c2 n v4 v5 M3) fun j1 =>
    if v3 = 0 then (j1 v1 M2)
    else (jn (fun (M4 : PM) =>
    j1 v2 M4) fun j2 =>
    if v1 = (-1) then (j2 M2)
    else (bd (m_tollNow v2 c2 M2) fun v6 M5 =>
    bd (m_tollNow v1 c2 M5) fun v7 M6 =>
    if v7 ≤ v6 then (j1 v1 M6)
    else (j2 M6))))

set_option maxHeartbeats 4000000 in
theorem t_m_cheapestOf_L5 (G : JG) (c1 : Int32) (c2 : Int32) : ∀ (n : Nat) (v1 : Int32) (v2 : Int32) (M1 : PM), T_m_cheapestOf G  M1 5 [some (.ref 72), some (.int c1), some (.int c2), some (.int v1), some (.int v2)] [] (m_cheapestOf_L5 c1 c2 n v1 v2 M1) := by
  intro n
  induction n with
  | zero =>
    intro v1 v2 M1
    exact J_none
  | succ n ih =>
    intro v1 v2 M1
    rw [m_cheapestOf_L5]
    refine J_iload (pc := 5) dX3_cheapestOf_5 rfl ?_
    refine J_aload_n (pc := 7) dX3_cheapestOf_7 rfl ?_
    refine J_get (pc := 8) (c := 2) (.int (M1.i 72 2)) rfl in_X3 2 (by decide) q1109 rfl (fun h => sh_k1 h 52 rfl) (fun _ _ => rfl) dX3_cheapestOf_8 ?_
    refine J_icmp_ge (pc := 11) 54 dX3_cheapestOf_11 rfl (fun h => if_pos h) (fun h => if_neg h) (fun _ => ?_) (fun _ => ?_)
    · refine J_iload_n (pc := 54) dX3_cheapestOf_54 rfl ?_
      exact J_iret (pc := 55) dX3_cheapestOf_55
    · refine J_aload_n (pc := 14) dX3_cheapestOf_14 rfl ?_
      refine J_iload (pc := 15) dX3_cheapestOf_15 rfl ?_
      refine J_iload_n (pc := 17) dX3_cheapestOf_17 rfl ?_
      refine J_callV (pc := 18) (n := 2) (b := 72) (vs := [.int v2, .int c1]) (ci := 2) (fun l => C_m_means l v2 c1 M1) (lw_V q1493 q1495 qs92 q118 q1496) nmv_X3_means rfl (by omega) (by decide) rfl (fun h => sh_k1 h 52 rfl) rfl (Nat.le_of_ble_eq_true rfl) dX3_cheapestOf_18 (fun v3 M2 => ?_)
      refine J_jn (P := fun J => ∀ (v4 : Int32) (M3 : PM), T_m_cheapestOf G  M3 48 [some (.ref 72), some (.int c1), some (.int c2), some (.int v4), some (.int v2)] [] (J v4 M3)) (fun v4 M3 => ?_) (fun j1 hj1 => ?_)
      · refine J_iincL (pc := 48) (n := 1) (by decide) dX3_cheapestOf_48 rfl (by decide) (fun v5 => ?_)
        refine J_goto (pc := 51) 5 dX3_cheapestOf_51 rfl ?_
        exact J_sub (A := [some (.ref 72), some (.int c1), some (.int c2), some (.int v4), some (.int v5)]) ⟨rfl, ⟨rfl, ⟨rfl, ⟨rfl, ⟨rfl, trivial⟩⟩⟩⟩⟩ (ih v4 v5 M3)
      refine J_if_eq (pc := 21) 48 dX3_cheapestOf_21 rfl (fun h => if_pos h) (fun h => if_neg h) (fun _ => ?_) (fun _ => ?_)
      · exact J_sub (A := [some (.ref 72), some (.int c1), some (.int c2), some (.int v1), some (.int v2)]) ⟨rfl, ⟨rfl, ⟨rfl, ⟨rfl, ⟨rfl, trivial⟩⟩⟩⟩⟩ (hj1 v1 M2)
      · refine J_iload_n (pc := 24) dX3_cheapestOf_24 rfl ?_
        refine J_iconst (pc := 25) (-1) dX3_cheapestOf_25 (by decide) ?_
        refine J_jn (P := fun J => ∀ (M4 : PM), T_m_cheapestOf G  M4 45 [some (.ref 72), some (.int c1), some (.int c2), none, some (.int v2)] [] (J M4)) (fun M4 => ?_) (fun j2 hj2 => ?_)
        · refine J_iload (pc := 45) dX3_cheapestOf_45 rfl ?_
          refine J_istore_n (pc := 47) dX3_cheapestOf_47 (by decide) ?_
          exact J_sub (A := [some (.ref 72), some (.int c1), some (.int c2), some (.int v2), some (.int v2)]) ⟨rfl, ⟨rfl, ⟨rfl, ⟨rfl, ⟨rfl, trivial⟩⟩⟩⟩⟩ (hj1 v2 M4)
        refine J_icmp_eq (pc := 26) 45 dX3_cheapestOf_26 rfl (fun h => if_pos h) (fun h => if_neg h) (fun _ => ?_) (fun _ => ?_)
        · exact J_sub (A := [some (.ref 72), some (.int c1), some (.int c2), none, some (.int v2)]) ⟨rfl, ⟨rfl, ⟨rfl, ⟨rfl, trivial⟩⟩⟩⟩ (hj2 M2)
        · refine J_aload_n (pc := 29) dX3_cheapestOf_29 rfl ?_
          refine J_iload (pc := 30) dX3_cheapestOf_30 rfl ?_
          refine J_iload_n (pc := 32) dX3_cheapestOf_32 rfl ?_
          refine J_callV (pc := 33) (n := 2) (b := 72) (vs := [.int v2, .int c2]) (ci := 2) (fun l => C_m_tollNow l v2 c2 M2) (lw_V q1447 q1449 qs85 q118 q1450) nmv_X3_tollNow rfl (by omega) (by decide) rfl (fun h => sh_k1 h 52 rfl) rfl (Nat.le_of_ble_eq_true rfl) dX3_cheapestOf_33 (fun v6 M5 => ?_)
          refine J_aload_n (pc := 36) dX3_cheapestOf_36 rfl ?_
          refine J_iload_n (pc := 37) dX3_cheapestOf_37 rfl ?_
          refine J_iload_n (pc := 38) dX3_cheapestOf_38 rfl ?_
          refine J_callV (pc := 39) (n := 2) (b := 72) (vs := [.int v1, .int c2]) (ci := 2) (fun l => C_m_tollNow l v1 c2 M5) (lw_V q1447 q1449 qs85 q118 q1450) nmv_X3_tollNow rfl (by omega) (by decide) rfl (fun h => sh_k1 h 52 rfl) rfl (Nat.le_of_ble_eq_true rfl) dX3_cheapestOf_39 (fun v7 M6 => ?_)
          refine J_icmp_ge (pc := 42) 48 dX3_cheapestOf_42 rfl (fun h => if_pos h) (fun h => if_neg h) (fun _ => ?_) (fun _ => ?_)
          · exact J_sub (A := [some (.ref 72), some (.int c1), some (.int c2), some (.int v1), some (.int v2)]) ⟨rfl, ⟨rfl, ⟨rfl, ⟨rfl, ⟨rfl, trivial⟩⟩⟩⟩⟩ (hj1 v1 M6)
          · exact J_sub (A := [some (.ref 72), some (.int c1), some (.int c2), none, some (.int v2)]) ⟨rfl, ⟨rfl, ⟨rfl, ⟨rfl, trivial⟩⟩⟩⟩ (hj2 M6)

def m_cheapestOf (p1 : Int32) (p2 : Int32) (M : PM) : Option (Int32 × PM) :=
    m_cheapestOf_L5 p1 p2 FU (-1) 0 M

set_option maxHeartbeats 4000000 in
theorem t_m_cheapestOf (G : JG) (p1 : Int32) (p2 : Int32) (M : PM) : T_m_cheapestOf G  M 0 (ent [.ref 72, .int p1, .int p2] 5) [] (m_cheapestOf p1 p2 M) := by
  unfold m_cheapestOf
  refine J_iconst (pc := 0) (-1) dX3_cheapestOf_0 (by decide) ?_
  refine J_istore_n (pc := 1) dX3_cheapestOf_1 (by decide) ?_
  refine J_iconst (pc := 2) 0 dX3_cheapestOf_2 (by decide) ?_
  refine J_istore (pc := 3) dX3_cheapestOf_3 (by decide) ?_
  refine J_sub (A := [some (.ref 72), some (.int p1), some (.int p2), some (.int (-1)), some (.int 0)]) ⟨rfl, ⟨rfl, ⟨rfl, ⟨rfl, ⟨rfl, trivial⟩⟩⟩⟩⟩ (t_m_cheapestOf_L5 G p1 p2  FU (-1) 0 M)

theorem C_m_cheapestOf (l : Launch) (p1 : Int32) (p2 : Int32) (M : PM) : Ctr l Sh yX3_cheapestOf cX3_cheapestOf 5 (some .int) 143 rvI [.ref 72, .int p1, .int p2] M (m_cheapestOf p1 p2 M) := Ctr.of (by decide +kernel) (Nat.le_of_ble_eq_true rfl) (fun G => t_m_cheapestOf G p1 p2 M)

abbrev T_m_wordFor (G : JG) (M : PM) (pc : Nat) (L : List (Option Value)) (S : List Value) (o : Option (Int32 × PM)) : Prop := JJ G cX3_wordFor yX3_wordFor 3 144 (some .int) Sh (finR G Sh rvI) M pc L S o
def m_wordFor_L2 (c1 : Int32) (k37 : Int32 → PM → Option (Int32 × PM)) : Nat → Int32 → PM → Option (Int32 × PM)
  | 0, _, _ => none
  | n + 1, v1, M1 =>
    if (M1.i 72 7) ≤ v1 then (some ((-1), M1))
    else (bd (m_openOf c1 M1) fun v2 M2 =>
    bd (m_has v2 v1 M2) fun v3 M3 =>
    jn (fun (M4 : PM) =>
    lt (v1 + 1) fun v4 =>
    m_wordFor_L2 c1 k37 n v4 M4) fun j1 =>
    if v3 = 0 then (j1 M3)
    else (bd (m_field v1 2 M3) fun v5 M5 =>
    ck c1 44 <|
    if v5 = (M5.i 73 (ix c1)) then (k37 v1 M5)
    else (j1 M5)))

set_option maxHeartbeats 4000000 in
theorem t_m_wordFor_L2 (G : JG) (c1 : Int32) (k37 : Int32 → PM → Option (Int32 × PM)) (hk37 : ∀ z2 Me, T_m_wordFor G  Me 37 [some (.ref 72), some (.int c1), some (.int z2)] [] (k37 z2 Me)) : ∀ (n : Nat) (v1 : Int32) (M1 : PM), T_m_wordFor G  M1 2 [some (.ref 72), some (.int c1), some (.int v1)] [] (m_wordFor_L2 c1 k37 n v1 M1) := by
  intro n
  induction n with
  | zero =>
    intro v1 M1
    exact J_none
  | succ n ih =>
    intro v1 M1
    rw [m_wordFor_L2]
    refine J_iload_n (pc := 2) dX3_wordFor_2 rfl ?_
    refine J_aload_n (pc := 3) dX3_wordFor_3 rfl ?_
    refine J_get (pc := 4) (c := 2) (.int (M1.i 72 7)) rfl in_X3 7 (by decide) q1114 rfl (fun h => sh_k1 h 52 rfl) (fun _ _ => rfl) dX3_wordFor_4 ?_
    refine J_icmp_ge (pc := 7) 60 dX3_wordFor_7 rfl (fun h => if_pos h) (fun h => if_neg h) (fun _ => ?_) (fun _ => ?_)
    · refine J_iconst (pc := 60) (-1) dX3_wordFor_60 (by decide) ?_
      exact J_iret (pc := 61) dX3_wordFor_61
    · refine J_aload_n (pc := 10) dX3_wordFor_10 rfl ?_
      refine J_iload_n (pc := 11) dX3_wordFor_11 rfl ?_
      refine J_callV (pc := 12) (n := 1) (b := 72) (vs := [.int c1]) (ci := 2) (fun l => C_m_openOf l c1 M1) (lw_V q1414 q1416 qs82 q118 q1417) nmv_X3_openOf rfl (by omega) (by decide) rfl (fun h => sh_k1 h 52 rfl) rfl (Nat.le_of_ble_eq_true rfl) dX3_wordFor_12 (fun v2 M2 => ?_)
      refine J_iload_n (pc := 15) dX3_wordFor_15 rfl ?_
      refine J_callS (pc := 16) (n := 2) (vs := [.int v2, .int v1]) (fun l => C_m_has l v2 v1 M2) (lw_S q1422 q1423 q118 q1424) nmh_X3_has rfl (by omega) (by decide) rfl (Nat.le_of_ble_eq_true rfl) dX3_wordFor_16 (fun v3 M3 => ?_)
      refine J_jn (P := fun J => ∀ (M4 : PM), T_m_wordFor G  M4 54 [some (.ref 72), some (.int c1), some (.int v1)] [] (J M4)) (fun M4 => ?_) (fun j1 hj1 => ?_)
      · refine J_iincL (pc := 54) (n := 1) (by decide) dX3_wordFor_54 rfl (by decide) (fun v4 => ?_)
        refine J_goto (pc := 57) 2 dX3_wordFor_57 rfl ?_
        exact J_sub (A := [some (.ref 72), some (.int c1), some (.int v4)]) ⟨rfl, ⟨rfl, ⟨rfl, trivial⟩⟩⟩ (ih v4 M4)
      refine J_if_eq (pc := 19) 54 dX3_wordFor_19 rfl (fun h => if_pos h) (fun h => if_neg h) (fun _ => ?_) (fun _ => ?_)
      · exact J_sub (A := [some (.ref 72), some (.int c1), some (.int v1)]) ⟨rfl, ⟨rfl, ⟨rfl, trivial⟩⟩⟩ (hj1 M3)
      · refine J_aload_n (pc := 22) dX3_wordFor_22 rfl ?_
        refine J_iload_n (pc := 23) dX3_wordFor_23 rfl ?_
        refine J_iconst (pc := 24) 2 dX3_wordFor_24 (by decide) ?_
        refine J_callV (pc := 25) (n := 2) (b := 72) (vs := [.int v1, .int 2]) (ci := 2) (fun l => C_m_field l v1 2 M3) (lw_V q1418 q1420 qs83 q118 q1421) nmv_X3_field rfl (by omega) (by decide) rfl (fun h => sh_k1 h 52 rfl) rfl (Nat.le_of_ble_eq_true rfl) dX3_wordFor_25 (fun v5 M5 => ?_)
        refine J_aload_n (pc := 28) dX3_wordFor_28 rfl ?_
        refine J_get (pc := 29) (c := 2) (.ref 73) rfl in_X3 0 (by decide) q1107 rfl (fun h => sh_k1 h 52 rfl) (fun h _ => fv_ref (Or.inr ⟨_, rfl⟩) (sh_r h 51 rfl)) dX3_wordFor_29 ?_
        refine J_iload_n (pc := 32) dX3_wordFor_32 rfl ?_
        refine J_ck (fun h1 => ?_)
        refine J_iald (pc := 33) (a := 73) (fun h => sh_a h 53 rfl h1) dX3_wordFor_33 ?_
        refine J_icmp_ne (pc := 34) 54 dX3_wordFor_34 rfl (fun h => if_neg h) (fun h => if_pos h) (fun _ => ?_) (fun _ => ?_)
        · exact J_sub (A := [some (.ref 72), some (.int c1), some (.int v1)]) ⟨rfl, ⟨rfl, ⟨rfl, trivial⟩⟩⟩ (hj1 M5)
        · exact J_sub (A := [some (.ref 72), some (.int c1), some (.int v1)]) ⟨rfl, ⟨rfl, ⟨rfl, trivial⟩⟩⟩ (hk37 v1 M5)

def m_wordFor (p1 : Int32) (M : PM) : Option (Int32 × PM) :=
    m_wordFor_L2 p1 (fun (v6 : Int32) (M6 : PM) =>
    bd (m_field v6 1 M6) fun v7 M7 =>
    ck p1 44 <|
    bd (m_cheapestOf v7 (M7.i 73 (ix p1)) M7) fun v8 M8 =>
    some (v8, M8)) FU 0 M

set_option maxHeartbeats 4000000 in
theorem t_m_wordFor (G : JG) (p1 : Int32) (M : PM) : T_m_wordFor G  M 0 (ent [.ref 72, .int p1] 3) [] (m_wordFor p1 M) := by
  unfold m_wordFor
  refine J_iconst (pc := 0) 0 dX3_wordFor_0 (by decide) ?_
  refine J_istore_n (pc := 1) dX3_wordFor_1 (by decide) ?_
  refine J_sub (A := [some (.ref 72), some (.int p1), some (.int 0)]) ⟨rfl, ⟨rfl, ⟨rfl, trivial⟩⟩⟩ (t_m_wordFor_L2 G p1 _ ?_ FU 0 M)
  · intro v6 M6
    refine J_aload_n (pc := 37) dX3_wordFor_37 rfl ?_
    refine J_aload_n (pc := 38) dX3_wordFor_38 rfl ?_
    refine J_iload_n (pc := 39) dX3_wordFor_39 rfl ?_
    refine J_iconst (pc := 40) 1 dX3_wordFor_40 (by decide) ?_
    refine J_callV (pc := 41) (n := 2) (b := 72) (vs := [.int v6, .int 1]) (ci := 2) (fun l => C_m_field l v6 1 M6) (lw_V q1418 q1420 qs83 q118 q1421) nmv_X3_field rfl (by omega) (by decide) rfl (fun h => sh_k1 h 52 rfl) rfl (Nat.le_of_ble_eq_true rfl) dX3_wordFor_41 (fun v7 M7 => ?_)
    refine J_aload_n (pc := 44) dX3_wordFor_44 rfl ?_
    refine J_get (pc := 45) (c := 2) (.ref 73) rfl in_X3 0 (by decide) q1107 rfl (fun h => sh_k1 h 52 rfl) (fun h _ => fv_ref (Or.inr ⟨_, rfl⟩) (sh_r h 51 rfl)) dX3_wordFor_45 ?_
    refine J_iload_n (pc := 48) dX3_wordFor_48 rfl ?_
    refine J_ck (fun h2 => ?_)
    refine J_iald (pc := 49) (a := 73) (fun h => sh_a h 53 rfl h2) dX3_wordFor_49 ?_
    refine J_callV (pc := 50) (n := 2) (b := 72) (vs := [.int v7, .int (M7.i 73 (ix p1))]) (ci := 2) (fun l => C_m_cheapestOf l v7 (M7.i 73 (ix p1)) M7) (lw_V q1517 q1519 qs96 q118 q1520) nmv_X3_cheapestOf rfl (by omega) (by decide) rfl (fun h => sh_k1 h 52 rfl) rfl (Nat.le_of_ble_eq_true rfl) dX3_wordFor_50 (fun v8 M8 => ?_)
    exact J_iret (pc := 53) dX3_wordFor_53

theorem C_m_wordFor (l : Launch) (p1 : Int32) (M : PM) : Ctr l Sh yX3_wordFor cX3_wordFor 3 (some .int) 144 rvI [.ref 72, .int p1] M (m_wordFor p1 M) := Ctr.of (by decide +kernel) (Nat.le_of_ble_eq_true rfl) (fun G => t_m_wordFor G p1 M)

abbrev T_m_act (G : JG) (M : PM) (pc : Nat) (L : List (Option Value)) (S : List Value) (o : Option (Int32 × PM)) : Prop := JJ G cX3_act yX3_act 5 145 (some .boolean) Sh (finR G Sh rvI) M pc L S o
def m_act (p1 : Int32) (p2 : Int32) (p3 : Int32) (M : PM) : Option (Int32 × PM) :=
    if p1 = 119 then (ck 12 44 <|
    ck 12 44 <|
    lt (M.si 73 (ix 12) ((M.i 73 (ix 12)) + p2)) fun M10 =>
    some (1, M10))
    else (bd (m_isOne p2 M) fun v1 M1 =>
    if v1 = 0 then (some (0, M1))
    else (jn (fun (M2 : PM) =>
    lt (if p1 = 62 then 1 else 0 : Int32) fun v2 =>
    bd (m_refusesWalk 73 p2 v2 M2) fun v3 M3 =>
    if 0 ≤ v3 then (bd (m_goWalk 73 p2 v2 M3) fun v4 M4 =>
    some (1, M4))
    else (some (0, M3))) fun j1 =>
    if p1 = 62 then (j1 M1)
    else (if p1 = 60 then (j1 M1)
    else (jn (fun (v5 : Int32) (M5 : PM) =>
    if v5 < 0 then (some (0, M5))
    else (bd (m_refusesSay 73 p2 v5 M5) fun v6 M6 =>
    if 0 ≤ v6 then (bd (m_goSay 73 p2 v5 M6) fun v7 M7 =>
    lt (M7.si 72 33 ((M6.i 72 33) + v7)) fun M8 =>
    some (1, M8))
    else (some (0, M6)))) fun j3 =>
    if p1 = 115 then (j3 p3 M1)
    else (bd (m_wordFor p2 M1) fun v8 M9 =>
    j3 v8 M9)))))

set_option maxHeartbeats 4000000 in
theorem t_m_act (G : JG) (p1 : Int32) (p2 : Int32) (p3 : Int32) (M : PM) : T_m_act G  M 0 (ent [.ref 72, .int p1, .int p2, .int p3] 5) [] (m_act p1 p2 p3 M) := by
  unfold m_act
  refine J_iload_n (pc := 0) dX3_act_0 rfl ?_
  refine J_bipush (pc := 1) 119 dX3_act_1 (by decide) ?_
  refine J_icmp_ne (pc := 3) 19 dX3_act_3 rfl (fun h => if_neg h) (fun h => if_pos h) (fun _ => ?_) (fun _ => ?_)
  · refine J_aload_n (pc := 19) dX3_act_19 rfl ?_
    refine J_iload_n (pc := 20) dX3_act_20 rfl ?_
    refine J_callV (pc := 21) (n := 1) (b := 72) (vs := [.int p2]) (ci := 2) (fun l => C_m_isOne l p2 M) (lw_V q1410 q1412 qs81 q118 q1413) nmv_X3_isOne rfl (by omega) (by decide) rfl (fun h => sh_k1 h 52 rfl) rfl (Nat.le_of_ble_eq_true rfl) dX3_act_21 (fun v1 M1 => ?_)
    refine J_if_ne (pc := 24) 29 dX3_act_24 rfl (fun h => if_neg h) (fun h => if_pos h) (fun _ => ?_) (fun _ => ?_)
    · refine J_iload_n (pc := 29) dX3_act_29 rfl ?_
      refine J_bipush (pc := 30) 62 dX3_act_30 (by decide) ?_
      refine J_jn (P := fun J => ∀ (M2 : PM), T_m_act G  M2 41 [some (.ref 72), some (.int p1), some (.int p2), none, none] [] (J M2)) (fun M2 => ?_) (fun j1 hj1 => ?_)
      · refine J_iload_n (pc := 41) dX3_act_41 rfl ?_
        refine J_bipush (pc := 42) 62 dX3_act_42 (by decide) ?_
        refine J_ltj (β := Int32) (P := fun J => ∀ v2 : Int32, T_m_act G M2 52 [some (.ref 72), none, some (.int p2), none, none] [.int v2] (J v2)) (fun v2 => ?_) (fun j2 hj2 => ?_)
        · refine J_istore (pc := 52) dX3_act_52 (by decide) ?_
          refine J_aload_n (pc := 54) dX3_act_54 rfl ?_
          refine J_aload_n (pc := 55) dX3_act_55 rfl ?_
          refine J_get (pc := 56) (c := 2) (.ref 73) rfl in_X3 0 (by decide) q1107 rfl (fun h => sh_k1 h 52 rfl) (fun h _ => fv_ref (Or.inr ⟨_, rfl⟩) (sh_r h 51 rfl)) dX3_act_56 ?_
          refine J_iload_n (pc := 59) dX3_act_59 rfl ?_
          refine J_iload (pc := 60) dX3_act_60 rfl ?_
          refine J_callV (pc := 62) (n := 3) (b := 72) (vs := [.ref 73, .int p2, .int v2]) (ci := 2) (fun l => C_m_refusesWalk l 73 p2 v2 M2) (lw_V q1463 q1465 qs88 q118 q1466) nmv_X3_refusesWalk rfl (by omega) (by decide) rfl (fun h => sh_k1 h 52 rfl) rfl (Nat.le_of_ble_eq_true rfl) dX3_act_62 (fun v3 M3 => ?_)
          refine J_if_ge (pc := 65) 70 dX3_act_65 rfl (fun h => if_pos h) (fun h => if_neg h) (fun _ => ?_) (fun _ => ?_)
          · refine J_aload_n (pc := 70) dX3_act_70 rfl ?_
            refine J_get (pc := 71) (c := 2) (.ref 73) rfl in_X3 0 (by decide) q1107 rfl (fun h => sh_k1 h 52 rfl) (fun h _ => fv_ref (Or.inr ⟨_, rfl⟩) (sh_r h 51 rfl)) dX3_act_71 ?_
            refine J_iload_n (pc := 74) dX3_act_74 rfl ?_
            refine J_iload (pc := 75) dX3_act_75 rfl ?_
            refine J_callS (pc := 77) (n := 3) (vs := [.ref 73, .int p2, .int v2]) (fun l => C_m_goWalk l 73 p2 v2 M3) (lw_S q1474 q1475 q118 q1476) nmh_X3_goWalk rfl (by omega) (by decide) rfl (Nat.le_of_ble_eq_true rfl) dX3_act_77 (fun v4 M4 => ?_)
            refine J_pop (pc := 80) dX3_act_80 rfl ?_
            refine J_iconst (pc := 81) 1 dX3_act_81 (by decide) ?_
            exact J_zret (pc := 82) rfl dX3_act_82
          · refine J_iconst (pc := 68) 0 dX3_act_68 (by decide) ?_
            exact J_zret (pc := 69) rfl dX3_act_69
        refine J_icmp_ne (pc := 44) 51 dX3_act_44 rfl (fun h => congrArg j2 (if_neg h)) (fun h => congrArg j2 (if_pos h)) (fun _ => ?_) (fun _ => ?_)
        · refine J_iconst (pc := 51) 0 dX3_act_51 (by decide) ?_
          exact J_sub (A := [some (.ref 72), none, some (.int p2), none, none]) ⟨rfl, ⟨rfl, trivial⟩⟩ (hj2 0)
        · refine J_iconst (pc := 47) 1 dX3_act_47 (by decide) ?_
          refine J_goto (pc := 48) 52 dX3_act_48 rfl ?_
          exact J_sub (A := [some (.ref 72), none, some (.int p2), none, none]) ⟨rfl, ⟨rfl, trivial⟩⟩ (hj2 1)
      refine J_icmp_eq (pc := 32) 41 dX3_act_32 rfl (fun h => if_pos h) (fun h => if_neg h) (fun _ => ?_) (fun _ => ?_)
      · exact J_sub (A := [some (.ref 72), some (.int p1), some (.int p2), none, none]) ⟨rfl, ⟨rfl, ⟨rfl, trivial⟩⟩⟩ (hj1 M1)
      · refine J_iload_n (pc := 35) dX3_act_35 rfl ?_
        refine J_bipush (pc := 36) 60 dX3_act_36 (by decide) ?_
        refine J_icmp_ne (pc := 38) 83 dX3_act_38 rfl (fun h => if_neg h) (fun h => if_pos h) (fun _ => ?_) (fun _ => ?_)
        · refine J_iload_n (pc := 83) dX3_act_83 rfl ?_
          refine J_bipush (pc := 84) 115 dX3_act_84 (by decide) ?_
          refine J_jn (P := fun J => ∀ (v5 : Int32) (M5 : PM), T_m_act G  M5 98 [some (.ref 72), none, some (.int p2), none, none] [.int v5] (J v5 M5)) (fun v5 M5 => ?_) (fun j3 hj3 => ?_)
          · refine J_istore (pc := 98) dX3_act_98 (by decide) ?_
            refine J_iload (pc := 100) dX3_act_100 rfl ?_
            refine J_if_lt (pc := 102) 119 dX3_act_102 rfl (fun h => if_pos h) (fun h => if_neg h) (fun _ => ?_) (fun _ => ?_)
            · refine J_iconst (pc := 119) 0 dX3_act_119 (by decide) ?_
              exact J_zret (pc := 120) rfl dX3_act_120
            · refine J_aload_n (pc := 105) dX3_act_105 rfl ?_
              refine J_aload_n (pc := 106) dX3_act_106 rfl ?_
              refine J_get (pc := 107) (c := 2) (.ref 73) rfl in_X3 0 (by decide) q1107 rfl (fun h => sh_k1 h 52 rfl) (fun h _ => fv_ref (Or.inr ⟨_, rfl⟩) (sh_r h 51 rfl)) dX3_act_107 ?_
              refine J_iload_n (pc := 110) dX3_act_110 rfl ?_
              refine J_iload (pc := 111) dX3_act_111 rfl ?_
              refine J_callV (pc := 113) (n := 3) (b := 72) (vs := [.ref 73, .int p2, .int v5]) (ci := 2) (fun l => C_m_refusesSay l 73 p2 v5 M5) (lw_V q1485 q1487 qs90 q118 q1488) nmv_X3_refusesSay rfl (by omega) (by decide) rfl (fun h => sh_k1 h 52 rfl) rfl (Nat.le_of_ble_eq_true rfl) dX3_act_113 (fun v6 M6 => ?_)
              refine J_if_ge (pc := 116) 121 dX3_act_116 rfl (fun h => if_pos h) (fun h => if_neg h) (fun _ => ?_) (fun _ => ?_)
              · refine J_aload_n (pc := 121) dX3_act_121 rfl ?_
                refine J_dup (pc := 122) dX3_act_122 rfl ?_
                refine J_get (pc := 123) (c := 2) (.int (M6.i 72 33)) rfl in_X3 33 (by decide) q1140 rfl (fun h => sh_k1 h 52 rfl) (fun _ _ => rfl) dX3_act_123 ?_
                refine J_aload_n (pc := 126) dX3_act_126 rfl ?_
                refine J_aload_n (pc := 127) dX3_act_127 rfl ?_
                refine J_get (pc := 128) (c := 2) (.ref 73) rfl in_X3 0 (by decide) q1107 rfl (fun h => sh_k1 h 52 rfl) (fun h _ => fv_ref (Or.inr ⟨_, rfl⟩) (sh_r h 51 rfl)) dX3_act_128 ?_
                refine J_iload_n (pc := 131) dX3_act_131 rfl ?_
                refine J_iload (pc := 132) dX3_act_132 rfl ?_
                refine J_callV (pc := 134) (n := 3) (b := 72) (vs := [.ref 73, .int p2, .int v5]) (ci := 2) (fun l => C_m_goSay l 73 p2 v5 M6) (lw_V q1489 q1491 qs91 q118 q1492) nmv_X3_goSay rfl (by omega) (by decide) rfl (fun h => sh_k1 h 52 rfl) rfl (Nat.le_of_ble_eq_true rfl) dX3_act_134 (fun v7 M7 => ?_)
                refine J_iadd (pc := 137) dX3_act_137 ?_
                refine J_put (pc := 138) (a := 72) (v := .int ((M6.i 72 33) + v7)) (M' := M7.si 72 33 ((M6.i 72 33) + v7)) (c := 2) rfl in_X3 tyX3_ok fnX3 33 (by decide) q1140 rfl (Or.inl rfl) (fun h => sh_k1 h 52 rfl) (fun _ => rfl) (fun _ => rfl) ⟨⟨rfl, rfl⟩, rfl⟩ (fun _ hb => up2_same hb) (fun _ _ => rfl) (fun _ _ => rfl) (put_i (fun _ _ _ => rfl)) (fun h => Sh_si h) dX3_act_138 ?_
                refine J_ltM (fun M8 => ?_)
                refine J_iconst (pc := 141) 1 dX3_act_141 (by decide) ?_
                exact J_zret (pc := 142) rfl dX3_act_142
              · refine J_iconst (pc := 119) 0 dX3_act_119 (by decide) ?_
                exact J_zret (pc := 120) rfl dX3_act_120
          refine J_icmp_ne (pc := 86) 93 dX3_act_86 rfl (fun h => if_neg h) (fun h => if_pos h) (fun _ => ?_) (fun _ => ?_)
          · refine J_aload_n (pc := 93) dX3_act_93 rfl ?_
            refine J_iload_n (pc := 94) dX3_act_94 rfl ?_
            refine J_callV (pc := 95) (n := 1) (b := 72) (vs := [.int p2]) (ci := 2) (fun l => C_m_wordFor l p2 M1) (lw_V q1513 q1515 qs95 q118 q1516) nmv_X3_wordFor rfl (by omega) (by decide) rfl (fun h => sh_k1 h 52 rfl) rfl (Nat.le_of_ble_eq_true rfl) dX3_act_95 (fun v8 M9 => ?_)
            exact J_sub (A := [some (.ref 72), none, some (.int p2), none, none]) ⟨rfl, ⟨rfl, trivial⟩⟩ (hj3 v8 M9)
          · refine J_iload_n (pc := 89) dX3_act_89 rfl ?_
            refine J_goto (pc := 90) 98 dX3_act_90 rfl ?_
            exact J_sub (A := [some (.ref 72), none, some (.int p2), none, none]) ⟨rfl, ⟨rfl, trivial⟩⟩ (hj3 p3 M1)
        · exact J_sub (A := [some (.ref 72), some (.int p1), some (.int p2), none, none]) ⟨rfl, ⟨rfl, ⟨rfl, trivial⟩⟩⟩ (hj1 M1)
    · refine J_iconst (pc := 27) 0 dX3_act_27 (by decide) ?_
      exact J_zret (pc := 28) rfl dX3_act_28
  · refine J_aload_n (pc := 6) dX3_act_6 rfl ?_
    refine J_get (pc := 7) (c := 2) (.ref 73) rfl in_X3 0 (by decide) q1107 rfl (fun h => sh_k1 h 52 rfl) (fun h _ => fv_ref (Or.inr ⟨_, rfl⟩) (sh_r h 51 rfl)) dX3_act_7 ?_
    refine J_bipush (pc := 10) 12 dX3_act_10 (by decide) ?_
    refine J_dup2 (pc := 12) dX3_act_12 rfl rfl ?_
    refine J_ck (fun h1 => ?_)
    refine J_iald (pc := 13) (a := 73) (fun h => sh_a h 53 rfl h1) dX3_act_13 ?_
    refine J_iload_n (pc := 14) dX3_act_14 rfl ?_
    refine J_iadd (pc := 15) dX3_act_15 ?_
    refine J_ck (fun h2 => ?_)
    refine J_iast (pc := 16) (a := 73) (fun h => sh_a h 53 rfl h2) (fun h => Sh_si h) dX3_act_16 ?_
    refine J_ltM (fun M10 => ?_)
    refine J_iconst (pc := 17) 1 dX3_act_17 (by decide) ?_
    exact J_zret (pc := 18) rfl dX3_act_18

theorem C_m_act (l : Launch) (p1 : Int32) (p2 : Int32) (p3 : Int32) (M : PM) : Ctr l Sh yX3_act cX3_act 5 (some .boolean) 145 rvI [.ref 72, .int p1, .int p2, .int p3] M (m_act p1 p2 p3 M) := Ctr.of (by decide +kernel) (Nat.le_of_ble_eq_true rfl) (fun G => t_m_act G p1 p2 p3 M)

abbrev T_m_readAct (G : JG) (M : PM) (pc : Nat) (L : List (Option Value)) (S : List Value) (o : Option (Unit × PM)) : Prop := JJ G cX3_readAct yX3_readAct 3 5 none Sh (finR G Sh rvU) M pc L S o
def m_readAct (p1 : Int32) (M : PM) : Option (Unit × PM) :=
    bd (m_passes 119 M) fun v1 M1 =>
    if v1 = 0 then (bd (m_oneOf 97 4 M1) fun v2 M2 =>
    ck (p1 + 1) 240 <|
    lt (M2.si 89 (ix (p1 + 1)) v2) fun M3 =>
    bd (m_here M3) fun v3 M4 =>
    bd (m_fine M4) fun v4 M5 =>
    jn (fun (M6 : PM) =>
    lt (M6.si 72 17 ((M6.i 72 17) + 1)) fun M7 =>
    bd (m_in v3 48 57 M7) fun v5 M8 =>
    lt (if v5 = 0 then v3 else 115 : Int32) fun v6 =>
    ck p1 240 <|
    lt (M8.si 89 (ix p1) v6) fun M9 =>
    ck (p1 + 2) 240 <|
    lt (M9.si 89 (ix (p1 + 2)) (v3 - 48)) fun M10 =>
    some ((), M10)) fun j1 =>
    if v4 = 0 then (j1 M5)
    else (if v3 = 62 then (j1 M5)
    else (if v3 = 60 then (j1 M5)
    else (if v3 = 33 then (j1 M5)
    else (bd (m_in v3 48 57 M5) fun v7 M11 =>
    if v7 = 0 then (bd (m_fault (M11.i 72 17) M11) fun _ M12 =>
    j1 M12)
    else (j1 M11))))))
    else (ck p1 240 <|
    lt (M1.si 89 (ix p1) 119) fun M13 =>
    bd (m_number 2 M13) fun v8 M14 =>
    ck (p1 + 1) 240 <|
    lt (M14.si 89 (ix (p1 + 1)) v8) fun M15 =>
    some ((), M15))

set_option maxHeartbeats 4000000 in
theorem t_m_readAct (G : JG) (p1 : Int32) (M : PM) : T_m_readAct G  M 0 (ent [.ref 72, .int p1] 3) [] (m_readAct p1 M) := by
  unfold m_readAct
  refine J_aload_n (pc := 0) dX3_readAct_0 rfl ?_
  refine J_bipush (pc := 1) 119 dX3_readAct_1 (by decide) ?_
  refine J_callV (pc := 3) (n := 1) (b := 72) (vs := [.int 119]) (ci := 2) (fun l => C_m_passes l 119 M) (lw_V q1328 q1330 qs67 q118 q1331) nmv_X3_passes rfl (by omega) (by decide) rfl (fun h => sh_k1 h 52 rfl) rfl (Nat.le_of_ble_eq_true rfl) dX3_readAct_3 (fun v1 M1 => ?_)
  refine J_if_eq (pc := 6) 31 dX3_readAct_6 rfl (fun h => if_pos h) (fun h => if_neg h) (fun _ => ?_) (fun _ => ?_)
  · refine J_aload_n (pc := 31) dX3_readAct_31 rfl ?_
    refine J_get (pc := 32) (c := 2) (.ref 89) rfl in_X3 32 (by decide) q1139 rfl (fun h => sh_k1 h 52 rfl) (fun h _ => fv_ref (Or.inr ⟨_, rfl⟩) (sh_r h 65 rfl)) dX3_readAct_32 ?_
    refine J_iload_n (pc := 35) dX3_readAct_35 rfl ?_
    refine J_iconst (pc := 36) 1 dX3_readAct_36 (by decide) ?_
    refine J_iadd (pc := 37) dX3_readAct_37 ?_
    refine J_aload_n (pc := 38) dX3_readAct_38 rfl ?_
    refine J_bipush (pc := 39) 97 dX3_readAct_39 (by decide) ?_
    refine J_iconst (pc := 41) 4 dX3_readAct_41 (by decide) ?_
    refine J_callV (pc := 42) (n := 2) (b := 72) (vs := [.int 97, .int 4]) (ci := 2) (fun l => C_m_oneOf l 97 4 M1) (lw_V q1320 q1322 qs65 q118 q1323) nmv_X3_oneOf rfl (by omega) (by decide) rfl (fun h => sh_k1 h 52 rfl) rfl (Nat.le_of_ble_eq_true rfl) dX3_readAct_42 (fun v2 M2 => ?_)
    refine J_ck (fun h1 => ?_)
    refine J_iast (pc := 45) (a := 89) (fun h => sh_a h 69 rfl h1) (fun h => Sh_si h) dX3_readAct_45 ?_
    refine J_ltM (fun M3 => ?_)
    refine J_aload_n (pc := 46) dX3_readAct_46 rfl ?_
    refine J_callV (pc := 47) (n := 0) (b := 72) (vs := []) (ci := 2) (fun l => C_m_here l  M3) (lw_V q1324 q1326 qs66 q118 q1327) nmv_X3_here rfl (by omega) (by decide) rfl (fun h => sh_k1 h 52 rfl) rfl (Nat.le_of_ble_eq_true rfl) dX3_readAct_47 (fun v3 M4 => ?_)
    refine J_istore_n (pc := 50) dX3_readAct_50 (by decide) ?_
    refine J_aload_n (pc := 51) dX3_readAct_51 rfl ?_
    refine J_callV (pc := 52) (n := 0) (b := 72) (vs := []) (ci := 2) (fun l => C_m_fine l  M4) (lw_V q1308 q1310 qs62 q118 q1311) nmv_X3_fine rfl (by omega) (by decide) rfl (fun h => sh_k1 h 52 rfl) rfl (Nat.le_of_ble_eq_true rfl) dX3_readAct_52 (fun v4 M5 => ?_)
    refine J_jn (P := fun J => ∀ (M6 : PM), T_m_readAct G  M6 95 [some (.ref 72), some (.int p1), some (.int v3)] [] (J M6)) (fun M6 => ?_) (fun j1 hj1 => ?_)
    · refine J_aload_n (pc := 95) dX3_readAct_95 rfl ?_
      refine J_dup (pc := 96) dX3_readAct_96 rfl ?_
      refine J_get (pc := 97) (c := 2) (.int (M6.i 72 17)) rfl in_X3 17 (by decide) q1124 rfl (fun h => sh_k1 h 52 rfl) (fun _ _ => rfl) dX3_readAct_97 ?_
      refine J_iconst (pc := 100) 1 dX3_readAct_100 (by decide) ?_
      refine J_iadd (pc := 101) dX3_readAct_101 ?_
      refine J_put (pc := 102) (a := 72) (v := .int ((M6.i 72 17) + 1)) (M' := M6.si 72 17 ((M6.i 72 17) + 1)) (c := 2) rfl in_X3 tyX3_ok fnX3 17 (by decide) q1124 rfl (Or.inl rfl) (fun h => sh_k1 h 52 rfl) (fun _ => rfl) (fun _ => rfl) ⟨⟨rfl, rfl⟩, rfl⟩ (fun _ hb => up2_same hb) (fun _ _ => rfl) (fun _ _ => rfl) (put_i (fun _ _ _ => rfl)) (fun h => Sh_si h) dX3_readAct_102 ?_
      refine J_ltM (fun M7 => ?_)
      refine J_aload_n (pc := 105) dX3_readAct_105 rfl ?_
      refine J_get (pc := 106) (c := 2) (.ref 89) rfl in_X3 32 (by decide) q1139 rfl (fun h => sh_k1 h 52 rfl) (fun h _ => fv_ref (Or.inr ⟨_, rfl⟩) (sh_r h 65 rfl)) dX3_readAct_106 ?_
      refine J_iload_n (pc := 109) dX3_readAct_109 rfl ?_
      refine J_iload_n (pc := 110) dX3_readAct_110 rfl ?_
      refine J_bipush (pc := 111) 48 dX3_readAct_111 (by decide) ?_
      refine J_bipush (pc := 113) 57 dX3_readAct_113 (by decide) ?_
      refine J_callS (pc := 115) (n := 3) (vs := [.int v3, .int 48, .int 57]) (fun l => C_m_in l v3 48 57 M7) (lw_S q1289 q1290 q118 q1291) nmh_X3_in rfl (by omega) (by decide) rfl (Nat.le_of_ble_eq_true rfl) dX3_readAct_115 (fun v5 M8 => ?_)
      refine J_ltj (β := Int32) (P := fun J => ∀ v6 : Int32, T_m_readAct G M8 127 [some (.ref 72), some (.int p1), some (.int v3)] [.int v6, .int p1, .ref 89] (J v6)) (fun v6 => ?_) (fun j2 hj2 => ?_)
      · refine J_ck (fun h2 => ?_)
        refine J_iast (pc := 127) (a := 89) (fun h => sh_a h 69 rfl h2) (fun h => Sh_si h) dX3_readAct_127 ?_
        refine J_ltM (fun M9 => ?_)
        refine J_aload_n (pc := 128) dX3_readAct_128 rfl ?_
        refine J_get (pc := 129) (c := 2) (.ref 89) rfl in_X3 32 (by decide) q1139 rfl (fun h => sh_k1 h 52 rfl) (fun h _ => fv_ref (Or.inr ⟨_, rfl⟩) (sh_r h 65 rfl)) dX3_readAct_129 ?_
        refine J_iload_n (pc := 132) dX3_readAct_132 rfl ?_
        refine J_iconst (pc := 133) 2 dX3_readAct_133 (by decide) ?_
        refine J_iadd (pc := 134) dX3_readAct_134 ?_
        refine J_iload_n (pc := 135) dX3_readAct_135 rfl ?_
        refine J_bipush (pc := 136) 48 dX3_readAct_136 (by decide) ?_
        refine J_isub (pc := 138) dX3_readAct_138 ?_
        refine J_ck (fun h3 => ?_)
        refine J_iast (pc := 139) (a := 89) (fun h => sh_a h 69 rfl h3) (fun h => Sh_si h) dX3_readAct_139 ?_
        refine J_ltM (fun M10 => ?_)
        exact J_ret (pc := 140) dX3_readAct_140
      refine J_if_eq (pc := 118) 126 dX3_readAct_118 rfl (fun h => congrArg j2 (if_pos h)) (fun h => congrArg j2 (if_neg h)) (fun _ => ?_) (fun _ => ?_)
      · refine J_iload_n (pc := 126) dX3_readAct_126 rfl ?_
        exact J_sub (A := [some (.ref 72), some (.int p1), some (.int v3)]) ⟨rfl, ⟨rfl, ⟨rfl, trivial⟩⟩⟩ (hj2 v3)
      · refine J_bipush (pc := 121) 115 dX3_readAct_121 (by decide) ?_
        refine J_goto (pc := 123) 127 dX3_readAct_123 rfl ?_
        exact J_sub (A := [some (.ref 72), some (.int p1), some (.int v3)]) ⟨rfl, ⟨rfl, ⟨rfl, trivial⟩⟩⟩ (hj2 115)
    refine J_if_eq (pc := 55) 95 dX3_readAct_55 rfl (fun h => if_pos h) (fun h => if_neg h) (fun _ => ?_) (fun _ => ?_)
    · exact J_sub (A := [some (.ref 72), some (.int p1), some (.int v3)]) ⟨rfl, ⟨rfl, ⟨rfl, trivial⟩⟩⟩ (hj1 M5)
    · refine J_iload_n (pc := 58) dX3_readAct_58 rfl ?_
      refine J_bipush (pc := 59) 62 dX3_readAct_59 (by decide) ?_
      refine J_icmp_eq (pc := 61) 95 dX3_readAct_61 rfl (fun h => if_pos h) (fun h => if_neg h) (fun _ => ?_) (fun _ => ?_)
      · exact J_sub (A := [some (.ref 72), some (.int p1), some (.int v3)]) ⟨rfl, ⟨rfl, ⟨rfl, trivial⟩⟩⟩ (hj1 M5)
      · refine J_iload_n (pc := 64) dX3_readAct_64 rfl ?_
        refine J_bipush (pc := 65) 60 dX3_readAct_65 (by decide) ?_
        refine J_icmp_eq (pc := 67) 95 dX3_readAct_67 rfl (fun h => if_pos h) (fun h => if_neg h) (fun _ => ?_) (fun _ => ?_)
        · exact J_sub (A := [some (.ref 72), some (.int p1), some (.int v3)]) ⟨rfl, ⟨rfl, ⟨rfl, trivial⟩⟩⟩ (hj1 M5)
        · refine J_iload_n (pc := 70) dX3_readAct_70 rfl ?_
          refine J_bipush (pc := 71) 33 dX3_readAct_71 (by decide) ?_
          refine J_icmp_eq (pc := 73) 95 dX3_readAct_73 rfl (fun h => if_pos h) (fun h => if_neg h) (fun _ => ?_) (fun _ => ?_)
          · exact J_sub (A := [some (.ref 72), some (.int p1), some (.int v3)]) ⟨rfl, ⟨rfl, ⟨rfl, trivial⟩⟩⟩ (hj1 M5)
          · refine J_iload_n (pc := 76) dX3_readAct_76 rfl ?_
            refine J_bipush (pc := 77) 48 dX3_readAct_77 (by decide) ?_
            refine J_bipush (pc := 79) 57 dX3_readAct_79 (by decide) ?_
            refine J_callS (pc := 81) (n := 3) (vs := [.int v3, .int 48, .int 57]) (fun l => C_m_in l v3 48 57 M5) (lw_S q1289 q1290 q118 q1291) nmh_X3_in rfl (by omega) (by decide) rfl (Nat.le_of_ble_eq_true rfl) dX3_readAct_81 (fun v7 M11 => ?_)
            refine J_if_ne (pc := 84) 95 dX3_readAct_84 rfl (fun h => if_neg h) (fun h => if_pos h) (fun _ => ?_) (fun _ => ?_)
            · exact J_sub (A := [some (.ref 72), some (.int p1), some (.int v3)]) ⟨rfl, ⟨rfl, ⟨rfl, trivial⟩⟩⟩ (hj1 M11)
            · refine J_aload_n (pc := 87) dX3_readAct_87 rfl ?_
              refine J_aload_n (pc := 88) dX3_readAct_88 rfl ?_
              refine J_get (pc := 89) (c := 2) (.int (M11.i 72 17)) rfl in_X3 17 (by decide) q1124 rfl (fun h => sh_k1 h 52 rfl) (fun _ _ => rfl) dX3_readAct_89 ?_
              refine J_callV (pc := 92) (n := 1) (b := 72) (vs := [.int (M11.i 72 17)]) (ci := 2) (fun l => C_m_fault l (M11.i 72 17) M11) (lw_V q1312 q1314 qs63 q118 q1315) nmv_X3_fault rfl (by omega) (by decide) rfl (fun h => sh_k1 h 52 rfl) rfl (Nat.le_of_ble_eq_true rfl) dX3_readAct_92 (fun _ M12 => ?_)
              exact J_sub (A := [some (.ref 72), some (.int p1), some (.int v3)]) ⟨rfl, ⟨rfl, ⟨rfl, trivial⟩⟩⟩ (hj1 M12)
  · refine J_aload_n (pc := 9) dX3_readAct_9 rfl ?_
    refine J_get (pc := 10) (c := 2) (.ref 89) rfl in_X3 32 (by decide) q1139 rfl (fun h => sh_k1 h 52 rfl) (fun h _ => fv_ref (Or.inr ⟨_, rfl⟩) (sh_r h 65 rfl)) dX3_readAct_10 ?_
    refine J_iload_n (pc := 13) dX3_readAct_13 rfl ?_
    refine J_bipush (pc := 14) 119 dX3_readAct_14 (by decide) ?_
    refine J_ck (fun h4 => ?_)
    refine J_iast (pc := 16) (a := 89) (fun h => sh_a h 69 rfl h4) (fun h => Sh_si h) dX3_readAct_16 ?_
    refine J_ltM (fun M13 => ?_)
    refine J_aload_n (pc := 17) dX3_readAct_17 rfl ?_
    refine J_get (pc := 18) (c := 2) (.ref 89) rfl in_X3 32 (by decide) q1139 rfl (fun h => sh_k1 h 52 rfl) (fun h _ => fv_ref (Or.inr ⟨_, rfl⟩) (sh_r h 65 rfl)) dX3_readAct_18 ?_
    refine J_iload_n (pc := 21) dX3_readAct_21 rfl ?_
    refine J_iconst (pc := 22) 1 dX3_readAct_22 (by decide) ?_
    refine J_iadd (pc := 23) dX3_readAct_23 ?_
    refine J_aload_n (pc := 24) dX3_readAct_24 rfl ?_
    refine J_iconst (pc := 25) 2 dX3_readAct_25 (by decide) ?_
    refine J_callV (pc := 26) (n := 1) (b := 72) (vs := [.int 2]) (ci := 2) (fun l => C_m_number l 2 M13) (lw_V q1344 q1346 qs70 q118 q1347) nmv_X3_number rfl (by omega) (by decide) rfl (fun h => sh_k1 h 52 rfl) rfl (Nat.le_of_ble_eq_true rfl) dX3_readAct_26 (fun v8 M14 => ?_)
    refine J_ck (fun h5 => ?_)
    refine J_iast (pc := 29) (a := 89) (fun h => sh_a h 69 rfl h5) (fun h => Sh_si h) dX3_readAct_29 ?_
    refine J_ltM (fun M15 => ?_)
    exact J_ret (pc := 30) dX3_readAct_30

theorem C_m_readAct (l : Launch) (p1 : Int32) (M : PM) : Ctr l Sh yX3_readAct cX3_readAct 3 none 5 rvU [.ref 72, .int p1] M (m_readAct p1 M) := Ctr.of (by decide +kernel) (Nat.le_of_ble_eq_true rfl) (fun G => t_m_readAct G p1 M)

abbrev T_m_journey (G : JG) (M : PM) (pc : Nat) (L : List (Option Value)) (S : List Value) (o : Option (Int32 × PM)) : Prop := JJ G cX3_journey yX3_journey 4 146 (some .int) Sh (finR G Sh rvI) M pc L S o
def m_journey_L26 (k57 : Int32 → PM → Option (Int32 × PM)) : Nat → Int32 → Int32 → PM → Option (Int32 × PM)
  | 0, _, _, _ => none
  | n + 1, v2, v3, M3 =>
    jn (fun (M4 : PM) =>
    k57 v2 M4) fun j2 =>
    if v3 = 0 then (j2 M3)
    else (bd (m_fine M3) fun v4 M5 =>
    if v4 = 0 then (j2 M5)
    else (bd (m_readAct (3 * v2) M5) fun _ M6 =>
    lt (v2 + 1) fun v5 =>
    bd (m_passes 59 M6) fun v6 M7 =>
    m_journey_L26 k57 n v5 v6 M7))

set_option maxHeartbeats 4000000 in
theorem t_m_journey_L26 (G : JG) (k57 : Int32 → PM → Option (Int32 × PM)) (hk57 : ∀ z1 Me, T_m_journey G  Me 57 [some (.ref 72), some (.int z1), none, none] [] (k57 z1 Me)) : ∀ (n : Nat) (v2 : Int32) (v3 : Int32) (M3 : PM), T_m_journey G  M3 26 [some (.ref 72), some (.int v2), some (.int v3), none] [] (m_journey_L26 k57 n v2 v3 M3) := by
  intro n
  induction n with
  | zero =>
    intro v2 v3 M3
    exact J_none
  | succ n ih =>
    intro v2 v3 M3
    rw [m_journey_L26]
    refine J_iload_n (pc := 26) dX3_journey_26 rfl ?_
    refine J_jn (P := fun J => ∀ (M4 : PM), T_m_journey G  M4 57 [some (.ref 72), some (.int v2), none, none] [] (J M4)) (fun M4 => ?_) (fun j2 hj2 => ?_)
    · exact J_sub (A := [some (.ref 72), some (.int v2), none, none]) ⟨rfl, ⟨rfl, trivial⟩⟩ (hk57 v2 M4)
    refine J_if_eq (pc := 27) 57 dX3_journey_27 rfl (fun h => if_pos h) (fun h => if_neg h) (fun _ => ?_) (fun _ => ?_)
    · exact J_sub (A := [some (.ref 72), some (.int v2), none, none]) ⟨rfl, ⟨rfl, trivial⟩⟩ (hj2 M3)
    · refine J_aload_n (pc := 30) dX3_journey_30 rfl ?_
      refine J_callV (pc := 31) (n := 0) (b := 72) (vs := []) (ci := 2) (fun l => C_m_fine l  M3) (lw_V q1308 q1310 qs62 q118 q1311) nmv_X3_fine rfl (by omega) (by decide) rfl (fun h => sh_k1 h 52 rfl) rfl (Nat.le_of_ble_eq_true rfl) dX3_journey_31 (fun v4 M5 => ?_)
      refine J_if_eq (pc := 34) 57 dX3_journey_34 rfl (fun h => if_pos h) (fun h => if_neg h) (fun _ => ?_) (fun _ => ?_)
      · exact J_sub (A := [some (.ref 72), some (.int v2), none, none]) ⟨rfl, ⟨rfl, trivial⟩⟩ (hj2 M5)
      · refine J_aload_n (pc := 37) dX3_journey_37 rfl ?_
        refine J_iconst (pc := 38) 3 dX3_journey_38 (by decide) ?_
        refine J_iload_n (pc := 39) dX3_journey_39 rfl ?_
        refine J_imul (pc := 40) dX3_journey_40 ?_
        refine J_callV (pc := 41) (n := 1) (b := 72) (vs := [.int (3 * v2)]) (ci := 2) (fun l => C_m_readAct l (3 * v2) M5) (lw_V q1505 q1507 qs93 q118 q1508) nmv_X3_readAct rfl (by omega) (by decide) rfl (fun h => sh_k1 h 52 rfl) rfl (Nat.le_of_ble_eq_true rfl) dX3_journey_41 (fun _ M6 => ?_)
        refine J_iincL (pc := 44) (n := 1) (by decide) dX3_journey_44 rfl (by decide) (fun v5 => ?_)
        refine J_aload_n (pc := 47) dX3_journey_47 rfl ?_
        refine J_bipush (pc := 48) 59 dX3_journey_48 (by decide) ?_
        refine J_callV (pc := 50) (n := 1) (b := 72) (vs := [.int 59]) (ci := 2) (fun l => C_m_passes l 59 M6) (lw_V q1328 q1330 qs67 q118 q1331) nmv_X3_passes rfl (by omega) (by decide) rfl (fun h => sh_k1 h 52 rfl) rfl (Nat.le_of_ble_eq_true rfl) dX3_journey_50 (fun v6 M7 => ?_)
        refine J_istore_n (pc := 53) dX3_journey_53 (by decide) ?_
        refine J_goto (pc := 54) 26 dX3_journey_54 rfl ?_
        exact J_sub (A := [some (.ref 72), some (.int v5), some (.int v6), none]) ⟨rfl, ⟨rfl, ⟨rfl, trivial⟩⟩⟩ (ih v5 v6 M7)

def m_journey_L90 (c1 : Int32) (k136 : Int32 → PM → Option (Int32 × PM)) : Nat → Int32 → PM → Option (Int32 × PM)
  | 0, _, _ => none
  | n + 1, v9, M12 =>
    jn (fun (M13 : PM) =>
    k136 v9 M13) fun j3 =>
    if c1 ≤ v9 then (j3 M12)
    else (ck (3 * v9) 240 <|
    ck ((3 * v9) + 1) 240 <|
    ck ((3 * v9) + 2) 240 <|
    bd (m_act (M12.i 89 (ix (3 * v9))) (M12.i 89 (ix ((3 * v9) + 1))) (M12.i 89 (ix ((3 * v9) + 2))) M12) fun v10 M14 =>
    if v10 = 0 then (j3 M14)
    else (lt (v9 + 1) fun v11 =>
    m_journey_L90 c1 k136 n v11 M14))

set_option maxHeartbeats 4000000 in
theorem t_m_journey_L90 (G : JG) (c1 : Int32) (k136 : Int32 → PM → Option (Int32 × PM)) (hk136 : ∀ z3 Me, T_m_journey G  Me 136 [some (.ref 72), some (.int c1), none, some (.int z3)] [] (k136 z3 Me)) : ∀ (n : Nat) (v9 : Int32) (M12 : PM), T_m_journey G  M12 90 [some (.ref 72), some (.int c1), none, some (.int v9)] [] (m_journey_L90 c1 k136 n v9 M12) := by
  intro n
  induction n with
  | zero =>
    intro v9 M12
    exact J_none
  | succ n ih =>
    intro v9 M12
    rw [m_journey_L90]
    refine J_iload_n (pc := 90) dX3_journey_90 rfl ?_
    refine J_iload_n (pc := 91) dX3_journey_91 rfl ?_
    refine J_jn (P := fun J => ∀ (M13 : PM), T_m_journey G  M13 136 [some (.ref 72), some (.int c1), none, some (.int v9)] [] (J M13)) (fun M13 => ?_) (fun j3 hj3 => ?_)
    · exact J_sub (A := [some (.ref 72), some (.int c1), none, some (.int v9)]) ⟨rfl, ⟨rfl, ⟨rfl, trivial⟩⟩⟩ (hk136 v9 M13)
    refine J_icmp_ge (pc := 92) 136 dX3_journey_92 rfl (fun h => if_pos h) (fun h => if_neg h) (fun _ => ?_) (fun _ => ?_)
    · exact J_sub (A := [some (.ref 72), some (.int c1), none, some (.int v9)]) ⟨rfl, ⟨rfl, ⟨rfl, trivial⟩⟩⟩ (hj3 M12)
    · refine J_aload_n (pc := 95) dX3_journey_95 rfl ?_
      refine J_aload_n (pc := 96) dX3_journey_96 rfl ?_
      refine J_get (pc := 97) (c := 2) (.ref 89) rfl in_X3 32 (by decide) q1139 rfl (fun h => sh_k1 h 52 rfl) (fun h _ => fv_ref (Or.inr ⟨_, rfl⟩) (sh_r h 65 rfl)) dX3_journey_97 ?_
      refine J_iconst (pc := 100) 3 dX3_journey_100 (by decide) ?_
      refine J_iload_n (pc := 101) dX3_journey_101 rfl ?_
      refine J_imul (pc := 102) dX3_journey_102 ?_
      refine J_ck (fun h1 => ?_)
      refine J_iald (pc := 103) (a := 89) (fun h => sh_a h 69 rfl h1) dX3_journey_103 ?_
      refine J_aload_n (pc := 104) dX3_journey_104 rfl ?_
      refine J_get (pc := 105) (c := 2) (.ref 89) rfl in_X3 32 (by decide) q1139 rfl (fun h => sh_k1 h 52 rfl) (fun h _ => fv_ref (Or.inr ⟨_, rfl⟩) (sh_r h 65 rfl)) dX3_journey_105 ?_
      refine J_iconst (pc := 108) 3 dX3_journey_108 (by decide) ?_
      refine J_iload_n (pc := 109) dX3_journey_109 rfl ?_
      refine J_imul (pc := 110) dX3_journey_110 ?_
      refine J_iconst (pc := 111) 1 dX3_journey_111 (by decide) ?_
      refine J_iadd (pc := 112) dX3_journey_112 ?_
      refine J_ck (fun h2 => ?_)
      refine J_iald (pc := 113) (a := 89) (fun h => sh_a h 69 rfl h2) dX3_journey_113 ?_
      refine J_aload_n (pc := 114) dX3_journey_114 rfl ?_
      refine J_get (pc := 115) (c := 2) (.ref 89) rfl in_X3 32 (by decide) q1139 rfl (fun h => sh_k1 h 52 rfl) (fun h _ => fv_ref (Or.inr ⟨_, rfl⟩) (sh_r h 65 rfl)) dX3_journey_115 ?_
      refine J_iconst (pc := 118) 3 dX3_journey_118 (by decide) ?_
      refine J_iload_n (pc := 119) dX3_journey_119 rfl ?_
      refine J_imul (pc := 120) dX3_journey_120 ?_
      refine J_iconst (pc := 121) 2 dX3_journey_121 (by decide) ?_
      refine J_iadd (pc := 122) dX3_journey_122 ?_
      refine J_ck (fun h3 => ?_)
      refine J_iald (pc := 123) (a := 89) (fun h => sh_a h 69 rfl h3) dX3_journey_123 ?_
      refine J_callV (pc := 124) (n := 3) (b := 72) (vs := [.int (M12.i 89 (ix (3 * v9))), .int (M12.i 89 (ix ((3 * v9) + 1))), .int (M12.i 89 (ix ((3 * v9) + 2)))]) (ci := 2) (fun l => C_m_act l (M12.i 89 (ix (3 * v9))) (M12.i 89 (ix ((3 * v9) + 1))) (M12.i 89 (ix ((3 * v9) + 2))) M12) (lw_V q1509 q1511 qs94 q118 q1512) nmv_X3_act rfl (by omega) (by decide) rfl (fun h => sh_k1 h 52 rfl) rfl (Nat.le_of_ble_eq_true rfl) dX3_journey_124 (fun v10 M14 => ?_)
      refine J_if_eq (pc := 127) 136 dX3_journey_127 rfl (fun h => if_pos h) (fun h => if_neg h) (fun _ => ?_) (fun _ => ?_)
      · exact J_sub (A := [some (.ref 72), some (.int c1), none, some (.int v9)]) ⟨rfl, ⟨rfl, ⟨rfl, trivial⟩⟩⟩ (hj3 M14)
      · refine J_iincL (pc := 130) (n := 1) (by decide) dX3_journey_130 rfl (by decide) (fun v11 => ?_)
        refine J_goto (pc := 133) 90 dX3_journey_133 rfl ?_
        exact J_sub (A := [some (.ref 72), some (.int c1), none, some (.int v11)]) ⟨rfl, ⟨rfl, ⟨rfl, trivial⟩⟩⟩ (ih v11 M14)

def m_journey (M : PM) : Option (Int32 × PM) :=
    lt (M.si 72 13 0) fun M1 =>
    bd (m_beginText 60 M1) fun _ M2 =>
    lt (if (M2.i 72 15) ≤ 0 then 0 else 1 : Int32) fun v1 =>
    m_journey_L26 (fun (v7 : Int32) (M8 : PM) =>
    bd (m_wasRight M8) fun v8 M9 =>
    if v8 = 0 then (some (((-1) - (M9.i 72 18)), M9))
    else (bd (m_lay 73 88 0 M9) fun _ M10 =>
    lt (M10.si 72 33 0) fun M11 =>
    m_journey_L90 v7 (fun (v12 : Int32) (M15 : PM) =>
    jn (fun (M16 : PM) =>
    lt (M16.si 72 12 0) fun M17 =>
    jn (fun (w1 : Int64) (M18 : PM) =>
    bd (m_tell w1 M18) fun _ M19 =>
    bd (m_tell (Int32.toInt64 (M19.i 72 33)) M19) fun _ M20 =>
    some (v12, M20)) fun j5 =>
    if v7 ≤ v12 then (j5 0 M17)
    else (j5 1 M17)) fun j4 =>
    if v12 ≤ 0 then (j4 M15)
    else (bd (m_remember 88 M15) fun _ M21 =>
    j4 M21)) FU 0 M11)) FU 0 v1 M2

set_option maxHeartbeats 4000000 in
theorem t_m_journey (G : JG) (M : PM) : T_m_journey G  M 0 (ent [.ref 72] 4) [] (m_journey M) := by
  unfold m_journey
  refine J_aload_n (pc := 0) dX3_journey_0 rfl ?_
  refine J_iconst (pc := 1) 0 dX3_journey_1 (by decide) ?_
  refine J_put (pc := 2) (a := 72) (v := .int 0) (M' := M.si 72 13 0) (c := 2) rfl in_X3 tyX3_ok fnX3 13 (by decide) q1120 rfl (Or.inl rfl) (fun h => sh_k1 h 52 rfl) (fun _ => rfl) (fun _ => rfl) ⟨⟨rfl, rfl⟩, rfl⟩ (fun _ hb => up2_same hb) (fun _ _ => rfl) (fun _ _ => rfl) (put_i (fun _ _ _ => rfl)) (fun h => Sh_si h) dX3_journey_2 ?_
  refine J_ltM (fun M1 => ?_)
  refine J_aload_n (pc := 5) dX3_journey_5 rfl ?_
  refine J_bipush (pc := 6) 60 dX3_journey_6 (by decide) ?_
  refine J_callV (pc := 8) (n := 1) (b := 72) (vs := [.int 60]) (ci := 2) (fun l => C_m_beginText l 60 M1) (lw_V q1300 q1302 qs60 q118 q1303) nmv_X3_beginText rfl (by omega) (by decide) rfl (fun h => sh_k1 h 52 rfl) rfl (Nat.le_of_ble_eq_true rfl) dX3_journey_8 (fun _ M2 => ?_)
  refine J_iconst (pc := 11) 0 dX3_journey_11 (by decide) ?_
  refine J_istore_n (pc := 12) dX3_journey_12 (by decide) ?_
  refine J_aload_n (pc := 13) dX3_journey_13 rfl ?_
  refine J_get (pc := 14) (c := 2) (.int (M2.i 72 15)) rfl in_X3 15 (by decide) q1122 rfl (fun h => sh_k1 h 52 rfl) (fun _ _ => rfl) dX3_journey_14 ?_
  refine J_ltj (β := Int32) (P := fun J => ∀ v1 : Int32, T_m_journey G M2 25 [some (.ref 72), some (.int 0), none, none] [.int v1] (J v1)) (fun v1 => ?_) (fun j1 hj1 => ?_)
  · refine J_istore_n (pc := 25) dX3_journey_25 (by decide) ?_
    refine J_sub (A := [some (.ref 72), some (.int 0), some (.int v1), none]) ⟨rfl, ⟨rfl, ⟨rfl, trivial⟩⟩⟩ (t_m_journey_L26 G _ ?_ FU 0 v1 M2)
    · intro v7 M8
      refine J_aload_n (pc := 57) dX3_journey_57 rfl ?_
      refine J_callV (pc := 58) (n := 0) (b := 72) (vs := []) (ci := 2) (fun l => C_m_wasRight l  M8) (lw_V q1332 q1334 qs68 q118 q1335) nmv_X3_wasRight rfl (by omega) (by decide) rfl (fun h => sh_k1 h 52 rfl) rfl (Nat.le_of_ble_eq_true rfl) dX3_journey_58 (fun v8 M9 => ?_)
      refine J_if_ne (pc := 61) 71 dX3_journey_61 rfl (fun h => if_neg h) (fun h => if_pos h) (fun _ => ?_) (fun _ => ?_)
      · refine J_aload_n (pc := 71) dX3_journey_71 rfl ?_
        refine J_get (pc := 72) (c := 2) (.ref 73) rfl in_X3 0 (by decide) q1107 rfl (fun h => sh_k1 h 52 rfl) (fun h _ => fv_ref (Or.inr ⟨_, rfl⟩) (sh_r h 51 rfl)) dX3_journey_72 ?_
        refine J_aload_n (pc := 75) dX3_journey_75 rfl ?_
        refine J_get (pc := 76) (c := 2) (.ref 88) rfl in_X3 30 (by decide) q1137 rfl (fun h => sh_k1 h 52 rfl) (fun h _ => fv_ref (Or.inr ⟨_, rfl⟩) (sh_r h 64 rfl)) dX3_journey_76 ?_
        refine J_iconst (pc := 79) 0 dX3_journey_79 (by decide) ?_
        refine J_callS (pc := 80) (n := 3) (vs := [.ref 73, .ref 88, .int 0]) (fun l => C_m_lay l 73 88 0 M9) (lw_S q1471 q1472 q118 q1473) nmh_X3_lay rfl (by omega) (by decide) rfl (Nat.le_of_ble_eq_true rfl) dX3_journey_80 (fun _ M10 => ?_)
        refine J_aload_n (pc := 83) dX3_journey_83 rfl ?_
        refine J_iconst (pc := 84) 0 dX3_journey_84 (by decide) ?_
        refine J_put (pc := 85) (a := 72) (v := .int 0) (M' := M10.si 72 33 0) (c := 2) rfl in_X3 tyX3_ok fnX3 33 (by decide) q1140 rfl (Or.inl rfl) (fun h => sh_k1 h 52 rfl) (fun _ => rfl) (fun _ => rfl) ⟨⟨rfl, rfl⟩, rfl⟩ (fun _ hb => up2_same hb) (fun _ _ => rfl) (fun _ _ => rfl) (put_i (fun _ _ _ => rfl)) (fun h => Sh_si h) dX3_journey_85 ?_
        refine J_ltM (fun M11 => ?_)
        refine J_iconst (pc := 88) 0 dX3_journey_88 (by decide) ?_
        refine J_istore_n (pc := 89) dX3_journey_89 (by decide) ?_
        refine J_sub (A := [some (.ref 72), some (.int v7), none, some (.int 0)]) ⟨rfl, ⟨rfl, ⟨rfl, trivial⟩⟩⟩ (t_m_journey_L90 G v7 _ ?_ FU 0 M11)
        · intro v12 M15
          refine J_iload_n (pc := 136) dX3_journey_136 rfl ?_
          refine J_jn (P := fun J => ∀ (M16 : PM), T_m_journey G  M16 148 [some (.ref 72), some (.int v7), none, some (.int v12)] [] (J M16)) (fun M16 => ?_) (fun j4 hj4 => ?_)
          · refine J_aload_n (pc := 148) dX3_journey_148 rfl ?_
            refine J_iconst (pc := 149) 0 dX3_journey_149 (by decide) ?_
            refine J_put (pc := 150) (a := 72) (v := .int 0) (M' := M16.si 72 12 0) (c := 2) rfl in_X3 tyX3_ok fnX3 12 (by decide) q1119 rfl (Or.inl rfl) (fun h => sh_k1 h 52 rfl) (fun _ => rfl) (fun _ => rfl) ⟨⟨rfl, rfl⟩, rfl⟩ (fun _ hb => up2_same hb) (fun _ _ => rfl) (fun _ _ => rfl) (put_i (fun _ _ _ => rfl)) (fun h => Sh_si h) dX3_journey_150 ?_
            refine J_ltM (fun M17 => ?_)
            refine J_aload_n (pc := 153) dX3_journey_153 rfl ?_
            refine J_iload_n (pc := 154) dX3_journey_154 rfl ?_
            refine J_iload_n (pc := 155) dX3_journey_155 rfl ?_
            refine J_jn (P := fun J => ∀ (w1 : Int64) (M18 : PM), T_m_journey G  M18 164 [some (.ref 72), none, none, some (.int v12)] [.long w1, .ref 72] (J w1 M18)) (fun w1 M18 => ?_) (fun j5 hj5 => ?_)
            · refine J_callV (pc := 164) (n := 1) (b := 72) (vs := [.long w1]) (ci := 2) (fun l => C_m_tell l w1 M18) (lw_V q1455 q1457 qs87 q118 q1458) nmv_X3_tell rfl (by omega) (by decide) rfl (fun h => sh_k1 h 52 rfl) rfl (Nat.le_of_ble_eq_true rfl) dX3_journey_164 (fun _ M19 => ?_)
              refine J_aload_n (pc := 167) dX3_journey_167 rfl ?_
              refine J_aload_n (pc := 168) dX3_journey_168 rfl ?_
              refine J_get (pc := 169) (c := 2) (.int (M19.i 72 33)) rfl in_X3 33 (by decide) q1140 rfl (fun h => sh_k1 h 52 rfl) (fun _ _ => rfl) dX3_journey_169 ?_
              refine J_i2l (pc := 172) dX3_journey_172 ?_
              refine J_callV (pc := 173) (n := 1) (b := 72) (vs := [.long (Int32.toInt64 (M19.i 72 33))]) (ci := 2) (fun l => C_m_tell l (Int32.toInt64 (M19.i 72 33)) M19) (lw_V q1455 q1457 qs87 q118 q1458) nmv_X3_tell rfl (by omega) (by decide) rfl (fun h => sh_k1 h 52 rfl) rfl (Nat.le_of_ble_eq_true rfl) dX3_journey_173 (fun _ M20 => ?_)
              refine J_iload_n (pc := 176) dX3_journey_176 rfl ?_
              exact J_iret (pc := 177) dX3_journey_177
            refine J_icmp_ge (pc := 156) 163 dX3_journey_156 rfl (fun h => if_pos h) (fun h => if_neg h) (fun _ => ?_) (fun _ => ?_)
            · refine J_lconst (pc := 163) 0 dX3_journey_163 (by decide) ?_
              exact J_sub (A := [some (.ref 72), none, none, some (.int v12)]) ⟨rfl, ⟨rfl, trivial⟩⟩ (hj5 0 M17)
            · refine J_lconst (pc := 159) 1 dX3_journey_159 (by decide) ?_
              refine J_goto (pc := 160) 164 dX3_journey_160 rfl ?_
              exact J_sub (A := [some (.ref 72), none, none, some (.int v12)]) ⟨rfl, ⟨rfl, trivial⟩⟩ (hj5 1 M17)
          refine J_if_le (pc := 137) 148 dX3_journey_137 rfl (fun h => if_pos h) (fun h => if_neg h) (fun _ => ?_) (fun _ => ?_)
          · exact J_sub (A := [some (.ref 72), some (.int v7), none, some (.int v12)]) ⟨rfl, ⟨rfl, ⟨rfl, trivial⟩⟩⟩ (hj4 M15)
          · refine J_aload_n (pc := 140) dX3_journey_140 rfl ?_
            refine J_aload_n (pc := 141) dX3_journey_141 rfl ?_
            refine J_get (pc := 142) (c := 2) (.ref 88) rfl in_X3 30 (by decide) q1137 rfl (fun h => sh_k1 h 52 rfl) (fun h _ => fv_ref (Or.inr ⟨_, rfl⟩) (sh_r h 64 rfl)) dX3_journey_142 ?_
            refine J_callV (pc := 145) (n := 1) (b := 72) (vs := [.ref 88]) (ci := 2) (fun l => C_m_remember l 88 M15) (lw_V q1467 q1469 qs89 q118 q1470) nmv_X3_remember rfl (by omega) (by decide) rfl (fun h => sh_k1 h 52 rfl) rfl (Nat.le_of_ble_eq_true rfl) dX3_journey_145 (fun _ M21 => ?_)
            exact J_sub (A := [some (.ref 72), some (.int v7), none, some (.int v12)]) ⟨rfl, ⟨rfl, ⟨rfl, trivial⟩⟩⟩ (hj4 M21)
      · refine J_iconst (pc := 64) (-1) dX3_journey_64 (by decide) ?_
        refine J_aload_n (pc := 65) dX3_journey_65 rfl ?_
        refine J_get (pc := 66) (c := 2) (.int (M9.i 72 18)) rfl in_X3 18 (by decide) q1125 rfl (fun h => sh_k1 h 52 rfl) (fun _ _ => rfl) dX3_journey_66 ?_
        refine J_isub (pc := 69) dX3_journey_69 ?_
        exact J_iret (pc := 70) dX3_journey_70
  refine J_if_le (pc := 17) 24 dX3_journey_17 rfl (fun h => congrArg j1 (if_pos h)) (fun h => congrArg j1 (if_neg h)) (fun _ => ?_) (fun _ => ?_)
  · refine J_iconst (pc := 24) 0 dX3_journey_24 (by decide) ?_
    exact J_sub (A := [some (.ref 72), some (.int 0), none, none]) ⟨rfl, ⟨rfl, trivial⟩⟩ (hj1 0)
  · refine J_iconst (pc := 20) 1 dX3_journey_20 (by decide) ?_
    refine J_goto (pc := 21) 25 dX3_journey_21 rfl ?_
    exact J_sub (A := [some (.ref 72), some (.int 0), none, none]) ⟨rfl, ⟨rfl, trivial⟩⟩ (hj1 1)

theorem C_m_journey (l : Launch) (M : PM) : Ctr l Sh yX3_journey cX3_journey 4 (some .int) 146 rvI [.ref 72] M (m_journey M) := Ctr.of (by decide +kernel) (Nat.le_of_ble_eq_true rfl) (fun G => t_m_journey G M)

abbrev T_m_undo (G : JG) (M : PM) (pc : Nat) (L : List (Option Value)) (S : List Value) (o : Option (Int32 × PM)) : Prop := JJ G cX3_undo yX3_undo 2 1 (some .int) Sh (finR G Sh rvI) M pc L S o
def m_undo_L26 (k58 : PM → Option (Int32 × PM)) : Nat → Int32 → PM → Option (Int32 × PM)
  | 0, _, _ => none
  | n + 1, v1, M3 =>
    if 44 ≤ v1 then (k58 M3)
    else (ck ((44 * (M3.i 72 29)) + v1) 528 <|
    ck v1 44 <|
    lt (M3.si 73 (ix v1) (M3.i 87 (ix ((44 * (M3.i 72 29)) + v1)))) fun M4 =>
    lt (v1 + 1) fun v2 =>
    m_undo_L26 k58 n v2 M4)

set_option maxHeartbeats 4000000 in
theorem t_m_undo_L26 (G : JG) (k58 : PM → Option (Int32 × PM)) (hk58 : ∀ Me, T_m_undo G  Me 58 [some (.ref 72), none] [] (k58 Me)) : ∀ (n : Nat) (v1 : Int32) (M3 : PM), T_m_undo G  M3 26 [some (.ref 72), some (.int v1)] [] (m_undo_L26 k58 n v1 M3) := by
  intro n
  induction n with
  | zero =>
    intro v1 M3
    exact J_none
  | succ n ih =>
    intro v1 M3
    rw [m_undo_L26]
    refine J_iload_n (pc := 26) dX3_undo_26 rfl ?_
    refine J_bipush (pc := 27) 44 dX3_undo_27 (by decide) ?_
    refine J_icmp_ge (pc := 29) 58 dX3_undo_29 rfl (fun h => if_pos h) (fun h => if_neg h) (fun _ => ?_) (fun _ => ?_)
    · exact J_sub (A := [some (.ref 72), none]) ⟨rfl, trivial⟩ (hk58 M3)
    · refine J_aload_n (pc := 32) dX3_undo_32 rfl ?_
      refine J_get (pc := 33) (c := 2) (.ref 73) rfl in_X3 0 (by decide) q1107 rfl (fun h => sh_k1 h 52 rfl) (fun h _ => fv_ref (Or.inr ⟨_, rfl⟩) (sh_r h 51 rfl)) dX3_undo_33 ?_
      refine J_iload_n (pc := 36) dX3_undo_36 rfl ?_
      refine J_aload_n (pc := 37) dX3_undo_37 rfl ?_
      refine J_get (pc := 38) (c := 2) (.ref 87) rfl in_X3 28 (by decide) q1135 rfl (fun h => sh_k1 h 52 rfl) (fun h _ => fv_ref (Or.inr ⟨_, rfl⟩) (sh_r h 63 rfl)) dX3_undo_38 ?_
      refine J_bipush (pc := 41) 44 dX3_undo_41 (by decide) ?_
      refine J_aload_n (pc := 43) dX3_undo_43 rfl ?_
      refine J_get (pc := 44) (c := 2) (.int (M3.i 72 29)) rfl in_X3 29 (by decide) q1136 rfl (fun h => sh_k1 h 52 rfl) (fun _ _ => rfl) dX3_undo_44 ?_
      refine J_imul (pc := 47) dX3_undo_47 ?_
      refine J_iload_n (pc := 48) dX3_undo_48 rfl ?_
      refine J_iadd (pc := 49) dX3_undo_49 ?_
      refine J_ck (fun h1 => ?_)
      refine J_iald (pc := 50) (a := 87) (fun h => sh_a h 67 rfl h1) dX3_undo_50 ?_
      refine J_ck (fun h2 => ?_)
      refine J_iast (pc := 51) (a := 73) (fun h => sh_a h 53 rfl h2) (fun h => Sh_si h) dX3_undo_51 ?_
      refine J_ltM (fun M4 => ?_)
      refine J_iincL (pc := 52) (n := 1) (by decide) dX3_undo_52 rfl (by decide) (fun v2 => ?_)
      refine J_goto (pc := 55) 26 dX3_undo_55 rfl ?_
      exact J_sub (A := [some (.ref 72), some (.int v2)]) ⟨rfl, ⟨rfl, trivial⟩⟩ (ih v2 M4)

def m_undo (M : PM) : Option (Int32 × PM) :=
    lt (M.si 72 13 0) fun M1 =>
    if (M1.i 72 29) = 0 then (some ((-1), M1))
    else (lt (M1.si 72 29 ((M1.i 72 29) - 1)) fun M2 =>
    m_undo_L26 (fun (M5 : PM) =>
    some ((M5.i 72 29), M5)) FU 0 M2)

set_option maxHeartbeats 4000000 in
theorem t_m_undo (G : JG) (M : PM) : T_m_undo G  M 0 (ent [.ref 72] 2) [] (m_undo M) := by
  unfold m_undo
  refine J_aload_n (pc := 0) dX3_undo_0 rfl ?_
  refine J_iconst (pc := 1) 0 dX3_undo_1 (by decide) ?_
  refine J_put (pc := 2) (a := 72) (v := .int 0) (M' := M.si 72 13 0) (c := 2) rfl in_X3 tyX3_ok fnX3 13 (by decide) q1120 rfl (Or.inl rfl) (fun h => sh_k1 h 52 rfl) (fun _ => rfl) (fun _ => rfl) ⟨⟨rfl, rfl⟩, rfl⟩ (fun _ hb => up2_same hb) (fun _ _ => rfl) (fun _ _ => rfl) (put_i (fun _ _ _ => rfl)) (fun h => Sh_si h) dX3_undo_2 ?_
  refine J_ltM (fun M1 => ?_)
  refine J_aload_n (pc := 5) dX3_undo_5 rfl ?_
  refine J_get (pc := 6) (c := 2) (.int (M1.i 72 29)) rfl in_X3 29 (by decide) q1136 rfl (fun h => sh_k1 h 52 rfl) (fun _ _ => rfl) dX3_undo_6 ?_
  refine J_if_ne (pc := 9) 14 dX3_undo_9 rfl (fun h => if_neg h) (fun h => if_pos h) (fun _ => ?_) (fun _ => ?_)
  · refine J_aload_n (pc := 14) dX3_undo_14 rfl ?_
    refine J_dup (pc := 15) dX3_undo_15 rfl ?_
    refine J_get (pc := 16) (c := 2) (.int (M1.i 72 29)) rfl in_X3 29 (by decide) q1136 rfl (fun h => sh_k1 h 52 rfl) (fun _ _ => rfl) dX3_undo_16 ?_
    refine J_iconst (pc := 19) 1 dX3_undo_19 (by decide) ?_
    refine J_isub (pc := 20) dX3_undo_20 ?_
    refine J_put (pc := 21) (a := 72) (v := .int ((M1.i 72 29) - 1)) (M' := M1.si 72 29 ((M1.i 72 29) - 1)) (c := 2) rfl in_X3 tyX3_ok fnX3 29 (by decide) q1136 rfl (Or.inl rfl) (fun h => sh_k1 h 52 rfl) (fun _ => rfl) (fun _ => rfl) ⟨⟨rfl, rfl⟩, rfl⟩ (fun _ hb => up2_same hb) (fun _ _ => rfl) (fun _ _ => rfl) (put_i (fun _ _ _ => rfl)) (fun h => Sh_si h) dX3_undo_21 ?_
    refine J_ltM (fun M2 => ?_)
    refine J_iconst (pc := 24) 0 dX3_undo_24 (by decide) ?_
    refine J_istore_n (pc := 25) dX3_undo_25 (by decide) ?_
    refine J_sub (A := [some (.ref 72), some (.int 0)]) ⟨rfl, ⟨rfl, trivial⟩⟩ (t_m_undo_L26 G _ ?_ FU 0 M2)
    · intro M5
      refine J_aload_n (pc := 58) dX3_undo_58 rfl ?_
      refine J_get (pc := 59) (c := 2) (.int (M5.i 72 29)) rfl in_X3 29 (by decide) q1136 rfl (fun h => sh_k1 h 52 rfl) (fun _ _ => rfl) dX3_undo_59 ?_
      exact J_iret (pc := 62) dX3_undo_62
  · refine J_iconst (pc := 12) (-1) dX3_undo_12 (by decide) ?_
    exact J_iret (pc := 13) dX3_undo_13

theorem C_m_undo (l : Launch) (M : PM) : Ctr l Sh yX3_undo cX3_undo 2 (some .int) 1 rvI [.ref 72] M (m_undo M) := Ctr.of (by decide +kernel) (Nat.le_of_ble_eq_true rfl) (fun G => t_m_undo G M)

abbrev T_m_isMeaning (G : JG) (M : PM) (pc : Nat) (L : List (Option Value)) (S : List Value) (o : Option (Int32 × PM)) : Prop := JJ G cX3_isMeaning yX3_isMeaning 1 2 (some .boolean) Sh (finR G Sh rvI) M pc L S o
def m_isMeaning (p0 : Int32) (M : PM) : Option (Int32 × PM) :=
    bd (m_in p0 0 9 M) fun v1 M1 =>
    ckb (v1 = 0 ∨ v1 = 1) <|
    some (v1, M1)

set_option maxHeartbeats 4000000 in
theorem t_m_isMeaning (G : JG) (p0 : Int32) (M : PM) : T_m_isMeaning G  M 0 (ent [.int p0] 1) [] (m_isMeaning p0 M) := by
  unfold m_isMeaning
  refine J_iload_n (pc := 0) dX3_isMeaning_0 rfl ?_
  refine J_iconst (pc := 1) 0 dX3_isMeaning_1 (by decide) ?_
  refine J_bipush (pc := 2) 9 dX3_isMeaning_2 (by decide) ?_
  refine J_callS (pc := 4) (n := 3) (vs := [.int p0, .int 0, .int 9]) (fun l => C_m_in l p0 0 9 M) (lw_S q1289 q1290 q118 q1291) nmh_X3_in rfl (by omega) (by decide) rfl (Nat.le_of_ble_eq_true rfl) dX3_isMeaning_4 (fun v1 M1 => ?_)
  refine J_ckb (fun h1 => ?_)
  exact J_zret (pc := 7) (nz h1) dX3_isMeaning_7

theorem C_m_isMeaning (l : Launch) (p0 : Int32) (M : PM) : Ctr l Sh yX3_isMeaning cX3_isMeaning 1 (some .boolean) 2 rvI [.int p0] M (m_isMeaning p0 M) := Ctr.of (by decide +kernel) (Nat.le_of_ble_eq_true rfl) (fun G => t_m_isMeaning G p0 M)

abbrev T_m_cheapest (G : JG) (M : PM) (pc : Nat) (L : List (Option Value)) (S : List Value) (o : Option (Int32 × PM)) : Prop := JJ G cX3_cheapest yX3_cheapest 6 144 (some .int) Sh (finR G Sh rvI) M pc L S o
def m_cheapest_L43 (c1 : Int32) (c2 : Int32) (c3 : Int32) (k78 : Int32 → PM → Option (Int32 × PM)) : Nat → Int32 → Int32 → PM → Option (Int32 × PM)
  | 0, _, _, _ => none
  | n + 1, v4, v5, M5 =>
    if (M5.i 72 2) ≤ v5 then (k78 v4 M5)
    else (bd (m_means v5 c1 M5) fun v6 M6 =>
    lt (if v6 = 0 then 0 else 1 : Int32) fun v7 =>
    lt (v4 + v7) fun v8 =>
    lt (v5 + 1) fun v9 =>
    m_cheapest_L43 c1 c2 c3 k78 n v8 v9 M6)

set_option maxHeartbeats 4000000 in
theorem t_m_cheapest_L43 (G : JG) (c1 : Int32) (c2 : Int32) (c3 : Int32) (k78 : Int32 → PM → Option (Int32 × PM)) (hk78 : ∀ z4 Me, T_m_cheapest G  Me 78 [some (.ref 72), none, some (.int c2), some (.int c3), some (.int z4), none] [] (k78 z4 Me)) : ∀ (n : Nat) (v4 : Int32) (v5 : Int32) (M5 : PM), T_m_cheapest G  M5 43 [some (.ref 72), some (.int c1), some (.int c2), some (.int c3), some (.int v4), some (.int v5)] [] (m_cheapest_L43 c1 c2 c3 k78 n v4 v5 M5) := by
  intro n
  induction n with
  | zero =>
    intro v4 v5 M5
    exact J_none
  | succ n ih =>
    intro v4 v5 M5
    rw [m_cheapest_L43]
    refine J_iload (pc := 43) dX3_cheapest_43 rfl ?_
    refine J_aload_n (pc := 45) dX3_cheapest_45 rfl ?_
    refine J_get (pc := 46) (c := 2) (.int (M5.i 72 2)) rfl in_X3 2 (by decide) q1109 rfl (fun h => sh_k1 h 52 rfl) (fun _ _ => rfl) dX3_cheapest_46 ?_
    refine J_icmp_ge (pc := 49) 78 dX3_cheapest_49 rfl (fun h => if_pos h) (fun h => if_neg h) (fun _ => ?_) (fun _ => ?_)
    · exact J_sub (A := [some (.ref 72), none, some (.int c2), some (.int c3), some (.int v4), none]) ⟨rfl, ⟨rfl, ⟨rfl, ⟨rfl, trivial⟩⟩⟩⟩ (hk78 v4 M5)
    · refine J_iload (pc := 52) dX3_cheapest_52 rfl ?_
      refine J_aload_n (pc := 54) dX3_cheapest_54 rfl ?_
      refine J_iload (pc := 55) dX3_cheapest_55 rfl ?_
      refine J_iload_n (pc := 57) dX3_cheapest_57 rfl ?_
      refine J_callV (pc := 58) (n := 2) (b := 72) (vs := [.int v5, .int c1]) (ci := 2) (fun l => C_m_means l v5 c1 M5) (lw_V q1493 q1495 qs92 q118 q1496) nmv_X3_means rfl (by omega) (by decide) rfl (fun h => sh_k1 h 52 rfl) rfl (Nat.le_of_ble_eq_true rfl) dX3_cheapest_58 (fun v6 M6 => ?_)
      refine J_ltj (β := Int32) (P := fun J => ∀ v7 : Int32, T_m_cheapest G M6 69 [some (.ref 72), some (.int c1), some (.int c2), some (.int c3), none, some (.int v5)] [.int v7, .int v4] (J v7)) (fun v7 => ?_) (fun j1 hj1 => ?_)
      · refine J_iadd (pc := 69) dX3_cheapest_69 ?_
        refine J_lt (β := Int32) (v := (v4 + v7)) (L := fun _ => _) (S := fun v8 => [.int v8]) (fun v8 => ?_)
        refine J_istore (pc := 70) dX3_cheapest_70 (by decide) ?_
        refine J_iincL (pc := 72) (n := 1) (by decide) dX3_cheapest_72 rfl (by decide) (fun v9 => ?_)
        refine J_goto (pc := 75) 43 dX3_cheapest_75 rfl ?_
        exact J_sub (A := [some (.ref 72), some (.int c1), some (.int c2), some (.int c3), some (.int v8), some (.int v9)]) ⟨rfl, ⟨rfl, ⟨rfl, ⟨rfl, ⟨rfl, ⟨rfl, trivial⟩⟩⟩⟩⟩⟩ (ih v8 v9 M6)
      refine J_if_eq (pc := 61) 68 dX3_cheapest_61 rfl (fun h => congrArg j1 (if_pos h)) (fun h => congrArg j1 (if_neg h)) (fun _ => ?_) (fun _ => ?_)
      · refine J_iconst (pc := 68) 0 dX3_cheapest_68 (by decide) ?_
        exact J_sub (A := [some (.ref 72), some (.int c1), some (.int c2), some (.int c3), none, some (.int v5)]) ⟨rfl, ⟨rfl, ⟨rfl, ⟨rfl, ⟨rfl, trivial⟩⟩⟩⟩⟩ (hj1 0)
      · refine J_iconst (pc := 64) 1 dX3_cheapest_64 (by decide) ?_
        refine J_goto (pc := 65) 69 dX3_cheapest_65 rfl ?_
        exact J_sub (A := [some (.ref 72), some (.int c1), some (.int c2), some (.int c3), none, some (.int v5)]) ⟨rfl, ⟨rfl, ⟨rfl, ⟨rfl, ⟨rfl, trivial⟩⟩⟩⟩⟩ (hj1 1)

def m_cheapest (p1 : Int32) (p2 : Int32) (M : PM) : Option (Int32 × PM) :=
    lt (M.si 72 13 0) fun M1 =>
    bd (m_isMeaning p1 M1) fun v1 M2 =>
    if v1 = 0 then (some ((-1), M2))
    else (bd (m_isStation p2 M2) fun v2 M3 =>
    if v2 = 0 then (some ((-1), M3))
    else (bd (m_cheapestOf p1 p2 M3) fun v3 M4 =>
    if v3 = (-1) then (some ((-2), M4))
    else (m_cheapest_L43 p1 p2 v3 (fun (v10 : Int32) (M7 : PM) =>
    lt (M7.si 72 12 0) fun M8 =>
    bd (m_tollNow v3 p2 M8) fun v11 M9 =>
    bd (m_tell (Int32.toInt64 v11) M9) fun _ M10 =>
    bd (m_tell (Int32.toInt64 v10) M10) fun _ M11 =>
    some (v3, M11)) FU 0 0 M4)))

set_option maxHeartbeats 4000000 in
theorem t_m_cheapest (G : JG) (p1 : Int32) (p2 : Int32) (M : PM) : T_m_cheapest G  M 0 (ent [.ref 72, .int p1, .int p2] 6) [] (m_cheapest p1 p2 M) := by
  unfold m_cheapest
  refine J_aload_n (pc := 0) dX3_cheapest_0 rfl ?_
  refine J_iconst (pc := 1) 0 dX3_cheapest_1 (by decide) ?_
  refine J_put (pc := 2) (a := 72) (v := .int 0) (M' := M.si 72 13 0) (c := 2) rfl in_X3 tyX3_ok fnX3 13 (by decide) q1120 rfl (Or.inl rfl) (fun h => sh_k1 h 52 rfl) (fun _ => rfl) (fun _ => rfl) ⟨⟨rfl, rfl⟩, rfl⟩ (fun _ hb => up2_same hb) (fun _ _ => rfl) (fun _ _ => rfl) (put_i (fun _ _ _ => rfl)) (fun h => Sh_si h) dX3_cheapest_2 ?_
  refine J_ltM (fun M1 => ?_)
  refine J_iload_n (pc := 5) dX3_cheapest_5 rfl ?_
  refine J_callS (pc := 6) (n := 1) (vs := [.int p1]) (fun l => C_m_isMeaning l p1 M1) (lw_S q1529 q1530 q118 q1531) nmh_X3_isMeaning rfl (by omega) (by decide) rfl (Nat.le_of_ble_eq_true rfl) dX3_cheapest_6 (fun v1 M2 => ?_)
  refine J_if_eq (pc := 9) 20 dX3_cheapest_9 rfl (fun h => if_pos h) (fun h => if_neg h) (fun _ => ?_) (fun _ => ?_)
  · refine J_iconst (pc := 20) (-1) dX3_cheapest_20 (by decide) ?_
    exact J_iret (pc := 21) dX3_cheapest_21
  · refine J_aload_n (pc := 12) dX3_cheapest_12 rfl ?_
    refine J_iload_n (pc := 13) dX3_cheapest_13 rfl ?_
    refine J_callV (pc := 14) (n := 1) (b := 72) (vs := [.int p2]) (ci := 2) (fun l => C_m_isStation l p2 M2) (lw_V q1433 q1435 qs84 q118 q1436) nmv_X3_isStation rfl (by omega) (by decide) rfl (fun h => sh_k1 h 52 rfl) rfl (Nat.le_of_ble_eq_true rfl) dX3_cheapest_14 (fun v2 M3 => ?_)
    refine J_if_ne (pc := 17) 22 dX3_cheapest_17 rfl (fun h => if_neg h) (fun h => if_pos h) (fun _ => ?_) (fun _ => ?_)
    · refine J_aload_n (pc := 22) dX3_cheapest_22 rfl ?_
      refine J_iload_n (pc := 23) dX3_cheapest_23 rfl ?_
      refine J_iload_n (pc := 24) dX3_cheapest_24 rfl ?_
      refine J_callV (pc := 25) (n := 2) (b := 72) (vs := [.int p1, .int p2]) (ci := 2) (fun l => C_m_cheapestOf l p1 p2 M3) (lw_V q1517 q1519 qs96 q118 q1520) nmv_X3_cheapestOf rfl (by omega) (by decide) rfl (fun h => sh_k1 h 52 rfl) rfl (Nat.le_of_ble_eq_true rfl) dX3_cheapest_25 (fun v3 M4 => ?_)
      refine J_istore_n (pc := 28) dX3_cheapest_28 (by decide) ?_
      refine J_iload_n (pc := 29) dX3_cheapest_29 rfl ?_
      refine J_iconst (pc := 30) (-1) dX3_cheapest_30 (by decide) ?_
      refine J_icmp_ne (pc := 31) 37 dX3_cheapest_31 rfl (fun h => if_neg h) (fun h => if_pos h) (fun _ => ?_) (fun _ => ?_)
      · refine J_iconst (pc := 37) 0 dX3_cheapest_37 (by decide) ?_
        refine J_istore (pc := 38) dX3_cheapest_38 (by decide) ?_
        refine J_iconst (pc := 40) 0 dX3_cheapest_40 (by decide) ?_
        refine J_istore (pc := 41) dX3_cheapest_41 (by decide) ?_
        refine J_sub (A := [some (.ref 72), some (.int p1), some (.int p2), some (.int v3), some (.int 0), some (.int 0)]) ⟨rfl, ⟨rfl, ⟨rfl, ⟨rfl, ⟨rfl, ⟨rfl, trivial⟩⟩⟩⟩⟩⟩ (t_m_cheapest_L43 G p1 p2 v3 _ ?_ FU 0 0 M4)
        · intro v10 M7
          refine J_aload_n (pc := 78) dX3_cheapest_78 rfl ?_
          refine J_iconst (pc := 79) 0 dX3_cheapest_79 (by decide) ?_
          refine J_put (pc := 80) (a := 72) (v := .int 0) (M' := M7.si 72 12 0) (c := 2) rfl in_X3 tyX3_ok fnX3 12 (by decide) q1119 rfl (Or.inl rfl) (fun h => sh_k1 h 52 rfl) (fun _ => rfl) (fun _ => rfl) ⟨⟨rfl, rfl⟩, rfl⟩ (fun _ hb => up2_same hb) (fun _ _ => rfl) (fun _ _ => rfl) (put_i (fun _ _ _ => rfl)) (fun h => Sh_si h) dX3_cheapest_80 ?_
          refine J_ltM (fun M8 => ?_)
          refine J_aload_n (pc := 83) dX3_cheapest_83 rfl ?_
          refine J_aload_n (pc := 84) dX3_cheapest_84 rfl ?_
          refine J_iload_n (pc := 85) dX3_cheapest_85 rfl ?_
          refine J_iload_n (pc := 86) dX3_cheapest_86 rfl ?_
          refine J_callV (pc := 87) (n := 2) (b := 72) (vs := [.int v3, .int p2]) (ci := 2) (fun l => C_m_tollNow l v3 p2 M8) (lw_V q1447 q1449 qs85 q118 q1450) nmv_X3_tollNow rfl (by omega) (by decide) rfl (fun h => sh_k1 h 52 rfl) rfl (Nat.le_of_ble_eq_true rfl) dX3_cheapest_87 (fun v11 M9 => ?_)
          refine J_i2l (pc := 90) dX3_cheapest_90 ?_
          refine J_callV (pc := 91) (n := 1) (b := 72) (vs := [.long (Int32.toInt64 v11)]) (ci := 2) (fun l => C_m_tell l (Int32.toInt64 v11) M9) (lw_V q1455 q1457 qs87 q118 q1458) nmv_X3_tell rfl (by omega) (by decide) rfl (fun h => sh_k1 h 52 rfl) rfl (Nat.le_of_ble_eq_true rfl) dX3_cheapest_91 (fun _ M10 => ?_)
          refine J_aload_n (pc := 94) dX3_cheapest_94 rfl ?_
          refine J_iload (pc := 95) dX3_cheapest_95 rfl ?_
          refine J_i2l (pc := 97) dX3_cheapest_97 ?_
          refine J_callV (pc := 98) (n := 1) (b := 72) (vs := [.long (Int32.toInt64 v10)]) (ci := 2) (fun l => C_m_tell l (Int32.toInt64 v10) M10) (lw_V q1455 q1457 qs87 q118 q1458) nmv_X3_tell rfl (by omega) (by decide) rfl (fun h => sh_k1 h 52 rfl) rfl (Nat.le_of_ble_eq_true rfl) dX3_cheapest_98 (fun _ M11 => ?_)
          refine J_iload_n (pc := 101) dX3_cheapest_101 rfl ?_
          exact J_iret (pc := 102) dX3_cheapest_102
      · refine J_bipush (pc := 34) (-2) dX3_cheapest_34 (by decide) ?_
        exact J_iret (pc := 36) dX3_cheapest_36
    · refine J_iconst (pc := 20) (-1) dX3_cheapest_20 (by decide) ?_
      exact J_iret (pc := 21) dX3_cheapest_21

theorem C_m_cheapest (l : Launch) (p1 : Int32) (p2 : Int32) (M : PM) : Ctr l Sh yX3_cheapest cX3_cheapest 6 (some .int) 144 rvI [.ref 72, .int p1, .int p2] M (m_cheapest p1 p2 M) := Ctr.of (by decide +kernel) (Nat.le_of_ble_eq_true rfl) (fun G => t_m_cheapest G p1 p2 M)

abbrev T_m_tells (G : JG) (M : PM) (pc : Nat) (L : List (Option Value)) (S : List Value) (o : Option (Int32 × PM)) : Prop := JJ G cX3_tells yX3_tells 4 1 (some .int) Sh (finR G Sh rvI) M pc L S o
def m_tells (p1 : Int32) (p2 : Int32) (p3 : Int32) (M : PM) : Option (Int32 × PM) :=
    ck (2 * p1) 20 <|
    ck p2 80 <|
    if (M.i 76 (ix (2 * p1))) = ((M.i 78 (ix p2)) - 48) then (ck ((2 * p1) + 1) 20 <|
    if (M.i 76 (ix ((2 * p1) + 1))) = (-1) then (some (1, M))
    else (if p3 ≤ (p2 + 1) then (some (0, M))
    else (ck ((2 * p1) + 1) 20 <|
    ck (p2 + 1) 80 <|
    if (M.i 76 (ix ((2 * p1) + 1))) = ((M.i 78 (ix (p2 + 1))) - 48) then (some (2, M))
    else (some (0, M)))))
    else (some (0, M))

set_option maxHeartbeats 4000000 in
theorem t_m_tells (G : JG) (p1 : Int32) (p2 : Int32) (p3 : Int32) (M : PM) : T_m_tells G  M 0 (ent [.ref 72, .int p1, .int p2, .int p3] 4) [] (m_tells p1 p2 p3 M) := by
  unfold m_tells
  refine J_aload_n (pc := 0) dX3_tells_0 rfl ?_
  refine J_get (pc := 1) (c := 2) (.ref 76) rfl in_X3 5 (by decide) q1112 rfl (fun h => sh_k1 h 52 rfl) (fun h _ => fv_ref (Or.inr ⟨_, rfl⟩) (sh_r h 54 rfl)) dX3_tells_1 ?_
  refine J_iconst (pc := 4) 2 dX3_tells_4 (by decide) ?_
  refine J_iload_n (pc := 5) dX3_tells_5 rfl ?_
  refine J_imul (pc := 6) dX3_tells_6 ?_
  refine J_ck (fun h1 => ?_)
  refine J_iald (pc := 7) (a := 76) (fun h => sh_a h 56 rfl h1) dX3_tells_7 ?_
  refine J_aload_n (pc := 8) dX3_tells_8 rfl ?_
  refine J_get (pc := 9) (c := 2) (.ref 78) rfl in_X3 9 (by decide) q1116 rfl (fun h => sh_k1 h 52 rfl) (fun h _ => fv_ref (Or.inr ⟨_, rfl⟩) (sh_r h 56 rfl)) dX3_tells_9 ?_
  refine J_iload_n (pc := 12) dX3_tells_12 rfl ?_
  refine J_ck (fun h2 => ?_)
  refine J_bald (pc := 13) (a := 78) (fun h => sh_a h 58 rfl h2) dX3_tells_13 ?_
  refine J_bipush (pc := 14) 48 dX3_tells_14 (by decide) ?_
  refine J_isub (pc := 16) dX3_tells_16 ?_
  refine J_icmp_eq (pc := 17) 22 dX3_tells_17 rfl (fun h => if_pos h) (fun h => if_neg h) (fun _ => ?_) (fun _ => ?_)
  · refine J_aload_n (pc := 22) dX3_tells_22 rfl ?_
    refine J_get (pc := 23) (c := 2) (.ref 76) rfl in_X3 5 (by decide) q1112 rfl (fun h => sh_k1 h 52 rfl) (fun h _ => fv_ref (Or.inr ⟨_, rfl⟩) (sh_r h 54 rfl)) dX3_tells_23 ?_
    refine J_iconst (pc := 26) 2 dX3_tells_26 (by decide) ?_
    refine J_iload_n (pc := 27) dX3_tells_27 rfl ?_
    refine J_imul (pc := 28) dX3_tells_28 ?_
    refine J_iconst (pc := 29) 1 dX3_tells_29 (by decide) ?_
    refine J_iadd (pc := 30) dX3_tells_30 ?_
    refine J_ck (fun h3 => ?_)
    refine J_iald (pc := 31) (a := 76) (fun h => sh_a h 56 rfl h3) dX3_tells_31 ?_
    refine J_iconst (pc := 32) (-1) dX3_tells_32 (by decide) ?_
    refine J_icmp_ne (pc := 33) 38 dX3_tells_33 rfl (fun h => if_neg h) (fun h => if_pos h) (fun _ => ?_) (fun _ => ?_)
    · refine J_iload_n (pc := 38) dX3_tells_38 rfl ?_
      refine J_iconst (pc := 39) 1 dX3_tells_39 (by decide) ?_
      refine J_iadd (pc := 40) dX3_tells_40 ?_
      refine J_iload_n (pc := 41) dX3_tells_41 rfl ?_
      refine J_icmp_ge (pc := 42) 73 dX3_tells_42 rfl (fun h => if_pos h) (fun h => if_neg h) (fun _ => ?_) (fun _ => ?_)
      · refine J_iconst (pc := 73) 0 dX3_tells_73 (by decide) ?_
        exact J_iret (pc := 74) dX3_tells_74
      · refine J_aload_n (pc := 45) dX3_tells_45 rfl ?_
        refine J_get (pc := 46) (c := 2) (.ref 76) rfl in_X3 5 (by decide) q1112 rfl (fun h => sh_k1 h 52 rfl) (fun h _ => fv_ref (Or.inr ⟨_, rfl⟩) (sh_r h 54 rfl)) dX3_tells_46 ?_
        refine J_iconst (pc := 49) 2 dX3_tells_49 (by decide) ?_
        refine J_iload_n (pc := 50) dX3_tells_50 rfl ?_
        refine J_imul (pc := 51) dX3_tells_51 ?_
        refine J_iconst (pc := 52) 1 dX3_tells_52 (by decide) ?_
        refine J_iadd (pc := 53) dX3_tells_53 ?_
        refine J_ck (fun h4 => ?_)
        refine J_iald (pc := 54) (a := 76) (fun h => sh_a h 56 rfl h4) dX3_tells_54 ?_
        refine J_aload_n (pc := 55) dX3_tells_55 rfl ?_
        refine J_get (pc := 56) (c := 2) (.ref 78) rfl in_X3 9 (by decide) q1116 rfl (fun h => sh_k1 h 52 rfl) (fun h _ => fv_ref (Or.inr ⟨_, rfl⟩) (sh_r h 56 rfl)) dX3_tells_56 ?_
        refine J_iload_n (pc := 59) dX3_tells_59 rfl ?_
        refine J_iconst (pc := 60) 1 dX3_tells_60 (by decide) ?_
        refine J_iadd (pc := 61) dX3_tells_61 ?_
        refine J_ck (fun h5 => ?_)
        refine J_bald (pc := 62) (a := 78) (fun h => sh_a h 58 rfl h5) dX3_tells_62 ?_
        refine J_bipush (pc := 63) 48 dX3_tells_63 (by decide) ?_
        refine J_isub (pc := 65) dX3_tells_65 ?_
        refine J_icmp_ne (pc := 66) 73 dX3_tells_66 rfl (fun h => if_neg h) (fun h => if_pos h) (fun _ => ?_) (fun _ => ?_)
        · refine J_iconst (pc := 73) 0 dX3_tells_73 (by decide) ?_
          exact J_iret (pc := 74) dX3_tells_74
        · refine J_iconst (pc := 69) 2 dX3_tells_69 (by decide) ?_
          refine J_goto (pc := 70) 74 dX3_tells_70 rfl ?_
          exact J_iret (pc := 74) dX3_tells_74
    · refine J_iconst (pc := 36) 1 dX3_tells_36 (by decide) ?_
      exact J_iret (pc := 37) dX3_tells_37
  · refine J_iconst (pc := 20) 0 dX3_tells_20 (by decide) ?_
    exact J_iret (pc := 21) dX3_tells_21

theorem C_m_tells (l : Launch) (p1 : Int32) (p2 : Int32) (p3 : Int32) (M : PM) : Ctr l Sh yX3_tells cX3_tells 4 (some .int) 1 rvI [.ref 72, .int p1, .int p2, .int p3] M (m_tells p1 p2 p3 M) := Ctr.of (by decide +kernel) (Nat.le_of_ble_eq_true rfl) (fun G => t_m_tells G p1 p2 p3 M)

