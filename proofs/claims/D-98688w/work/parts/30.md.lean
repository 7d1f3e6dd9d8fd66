set_option maxRecDepth 100000
abbrev T_m_takesBy (G : JG) (M : PM) (pc : Nat) (L : List (Option Value)) (S : List Value) (o : Option (Int32 × PM)) : Prop := JJ G cX3_takesBy yX3_takesBy 7 143 (some .int) Sh (finR G Sh rvI) M pc L S o
def m_takesBy_L56 (c1 : Int32) (c2 : Int32) (c3 : Int32) (c4 : Int32) (k110 : Int32 → PM → Option (Int32 × PM)) : Nat → Int32 → Int32 → PM → Option (Int32 × PM)
  | 0, _, _, _ => none
  | n + 1, v7, v8, M6 =>
    if (M6.i 72 2) ≤ v8 then (k110 v7 M6)
    else (bd (m_field c4 1 M6) fun v9 M7 =>
    bd (m_means v8 v9 M7) fun v10 M8 =>
    jn (fun (v11 : Int32) (M9 : PM) =>
    lt (v8 + 1) fun v12 =>
    m_takesBy_L56 c1 c2 c3 c4 k110 n v11 v12 M9) fun j2 =>
    if v10 = 0 then (j2 v7 M8)
    else (bd (m_tollNow v8 c1 M8) fun v13 M10 =>
    bd (m_vowelsIn v8 M10) fun v14 M11 =>
    lt (imin v7 (v13 + (c2 * v14))) fun v15 =>
    j2 v15 M11))

set_option maxHeartbeats 4000000 in
theorem t_m_takesBy_L56 (G : JG) (c1 : Int32) (c2 : Int32) (c3 : Int32) (c4 : Int32) (k110 : Int32 → PM → Option (Int32 × PM)) (hk110 : ∀ z5 Me, T_m_takesBy G  Me 110 [some (.ref 72), some (.int c1), some (.int c2), some (.int c3), some (.int c4), some (.int z5), none] [] (k110 z5 Me)) : ∀ (n : Nat) (v7 : Int32) (v8 : Int32) (M6 : PM), T_m_takesBy G  M6 56 [some (.ref 72), some (.int c1), some (.int c2), some (.int c3), some (.int c4), some (.int v7), some (.int v8)] [] (m_takesBy_L56 c1 c2 c3 c4 k110 n v7 v8 M6) := by
  intro n
  induction n with
  | zero =>
    intro v7 v8 M6
    exact J_none
  | succ n ih =>
    intro v7 v8 M6
    rw [m_takesBy_L56]
    refine J_iload (pc := 56) dX3_takesBy_56 rfl ?_
    refine J_aload_n (pc := 58) dX3_takesBy_58 rfl ?_
    refine J_get (pc := 59) (c := 2) (.int (M6.i 72 2)) rfl in_X3 2 (by decide) q1109 rfl (fun h => sh_k1 h 52 rfl) (fun _ _ => rfl) dX3_takesBy_59 ?_
    refine J_icmp_ge (pc := 62) 110 dX3_takesBy_62 rfl (fun h => if_pos h) (fun h => if_neg h) (fun _ => ?_) (fun _ => ?_)
    · exact J_sub (A := [some (.ref 72), some (.int c1), some (.int c2), some (.int c3), some (.int c4), some (.int v7), none]) ⟨rfl, ⟨rfl, ⟨rfl, ⟨rfl, ⟨rfl, ⟨rfl, trivial⟩⟩⟩⟩⟩⟩ (hk110 v7 M6)
    · refine J_aload_n (pc := 65) dX3_takesBy_65 rfl ?_
      refine J_iload (pc := 66) dX3_takesBy_66 rfl ?_
      refine J_aload_n (pc := 68) dX3_takesBy_68 rfl ?_
      refine J_iload (pc := 69) dX3_takesBy_69 rfl ?_
      refine J_iconst (pc := 71) 1 dX3_takesBy_71 (by decide) ?_
      refine J_callV (pc := 72) (n := 2) (b := 72) (vs := [.int c4, .int 1]) (ci := 2) (fun l => C_m_field l c4 1 M6) (lw_V q1418 q1420 qs83 q118 q1421) nmv_X3_field rfl (by omega) (by decide) rfl (fun h => sh_k1 h 52 rfl) rfl (Nat.le_of_ble_eq_true rfl) dX3_takesBy_72 (fun v9 M7 => ?_)
      refine J_callV (pc := 75) (n := 2) (b := 72) (vs := [.int v8, .int v9]) (ci := 2) (fun l => C_m_means l v8 v9 M7) (lw_V q1493 q1495 qs92 q118 q1496) nmv_X3_means rfl (by omega) (by decide) rfl (fun h => sh_k1 h 52 rfl) rfl (Nat.le_of_ble_eq_true rfl) dX3_takesBy_75 (fun v10 M8 => ?_)
      refine J_jn (P := fun J => ∀ (v11 : Int32) (M9 : PM), T_m_takesBy G  M9 104 [some (.ref 72), some (.int c1), some (.int c2), some (.int c3), some (.int c4), some (.int v11), some (.int v8)] [] (J v11 M9)) (fun v11 M9 => ?_) (fun j2 hj2 => ?_)
      · refine J_iincL (pc := 104) (n := 1) (by decide) dX3_takesBy_104 rfl (by decide) (fun v12 => ?_)
        refine J_goto (pc := 107) 56 dX3_takesBy_107 rfl ?_
        exact J_sub (A := [some (.ref 72), some (.int c1), some (.int c2), some (.int c3), some (.int c4), some (.int v11), some (.int v12)]) ⟨rfl, ⟨rfl, ⟨rfl, ⟨rfl, ⟨rfl, ⟨rfl, ⟨rfl, trivial⟩⟩⟩⟩⟩⟩⟩ (ih v11 v12 M9)
      refine J_if_eq (pc := 78) 104 dX3_takesBy_78 rfl (fun h => if_pos h) (fun h => if_neg h) (fun _ => ?_) (fun _ => ?_)
      · exact J_sub (A := [some (.ref 72), some (.int c1), some (.int c2), some (.int c3), some (.int c4), some (.int v7), some (.int v8)]) ⟨rfl, ⟨rfl, ⟨rfl, ⟨rfl, ⟨rfl, ⟨rfl, ⟨rfl, trivial⟩⟩⟩⟩⟩⟩⟩ (hj2 v7 M8)
      · refine J_iload (pc := 81) dX3_takesBy_81 rfl ?_
        refine J_aload_n (pc := 83) dX3_takesBy_83 rfl ?_
        refine J_iload (pc := 84) dX3_takesBy_84 rfl ?_
        refine J_iload_n (pc := 86) dX3_takesBy_86 rfl ?_
        refine J_callV (pc := 87) (n := 2) (b := 72) (vs := [.int v8, .int c1]) (ci := 2) (fun l => C_m_tollNow l v8 c1 M8) (lw_V q1447 q1449 qs85 q118 q1450) nmv_X3_tollNow rfl (by omega) (by decide) rfl (fun h => sh_k1 h 52 rfl) rfl (Nat.le_of_ble_eq_true rfl) dX3_takesBy_87 (fun v13 M10 => ?_)
        refine J_iload_n (pc := 90) dX3_takesBy_90 rfl ?_
        refine J_aload_n (pc := 91) dX3_takesBy_91 rfl ?_
        refine J_iload (pc := 92) dX3_takesBy_92 rfl ?_
        refine J_callV (pc := 94) (n := 1) (b := 72) (vs := [.int v8]) (ci := 2) (fun l => C_m_vowelsIn l v8 M10) (lw_V q1391 q1393 qs78 q118 q1394) nmv_X3_vowelsIn rfl (by omega) (by decide) rfl (fun h => sh_k1 h 52 rfl) rfl (Nat.le_of_ble_eq_true rfl) dX3_takesBy_94 (fun v14 M11 => ?_)
        refine J_imul (pc := 97) dX3_takesBy_97 ?_
        refine J_iadd (pc := 98) dX3_takesBy_98 ?_
        refine J_min (pc := 99) (by omega) q1441 q410 q119 q411 (Nat.le_of_ble_eq_true rfl) dX3_takesBy_99 ?_
        refine J_lt (β := Int32) (v := (imin v7 (v13 + (c2 * v14)))) (L := fun _ => _) (S := fun v15 => [.int v15]) (fun v15 => ?_)
        refine J_istore (pc := 102) dX3_takesBy_102 (by decide) ?_
        exact J_sub (A := [some (.ref 72), some (.int c1), some (.int c2), some (.int c3), some (.int c4), some (.int v15), some (.int v8)]) ⟨rfl, ⟨rfl, ⟨rfl, ⟨rfl, ⟨rfl, ⟨rfl, ⟨rfl, trivial⟩⟩⟩⟩⟩⟩⟩ (hj2 v15 M11)

def m_takesBy_L10 (c1 : Int32) (c2 : Int32) : Nat → Int32 → Int32 → PM → Option (Int32 × PM)
  | 0, _, _, _ => none
  | n + 1, v1, v2, M2 =>
    if (M2.i 72 7) ≤ v2 then (some (v1, M2))
    else (ck 13 44 <|
    bd (m_has (M2.i 73 (ix 13)) v2 M2) fun v3 M3 =>
    jn (fun (v4 : Int32) (M4 : PM) =>
    lt (v2 + 1) fun v5 =>
    m_takesBy_L10 c1 c2 n v4 v5 M4) fun j1 =>
    if v3 = 0 then (bd (m_field v2 2 M3) fun v6 M5 =>
    if v6 = c1 then (m_takesBy_L56 c1 c2 v1 v2 (fun (v16 : Int32) (M12 : PM) =>
    bd (m_field v2 3 M12) fun v17 M13 =>
    if v16 ≤ v17 then (lt (v1 + v16) fun v18 =>
    lt (M13.si 72 43 ((M13.i 72 43) + 1)) fun M14 =>
    j1 v18 M14)
    else (j1 v1 M13)) FU 100000000 0 M5)
    else (j1 v1 M5))
    else (j1 v1 M3))

set_option maxHeartbeats 4000000 in
theorem t_m_takesBy_L10 (G : JG) (c1 : Int32) (c2 : Int32) : ∀ (n : Nat) (v1 : Int32) (v2 : Int32) (M2 : PM), T_m_takesBy G  M2 10 [some (.ref 72), some (.int c1), some (.int c2), some (.int v1), some (.int v2), none, none] [] (m_takesBy_L10 c1 c2 n v1 v2 M2) := by
  intro n
  induction n with
  | zero =>
    intro v1 v2 M2
    exact J_none
  | succ n ih =>
    intro v1 v2 M2
    rw [m_takesBy_L10]
    refine J_iload (pc := 10) dX3_takesBy_10 rfl ?_
    refine J_aload_n (pc := 12) dX3_takesBy_12 rfl ?_
    refine J_get (pc := 13) (c := 2) (.int (M2.i 72 7)) rfl in_X3 7 (by decide) q1114 rfl (fun h => sh_k1 h 52 rfl) (fun _ _ => rfl) dX3_takesBy_13 ?_
    refine J_icmp_ge (pc := 16) 146 dX3_takesBy_16 rfl (fun h => if_pos h) (fun h => if_neg h) (fun _ => ?_) (fun _ => ?_)
    · refine J_iload_n (pc := 146) dX3_takesBy_146 rfl ?_
      exact J_iret (pc := 147) dX3_takesBy_147
    · refine J_aload_n (pc := 19) dX3_takesBy_19 rfl ?_
      refine J_get (pc := 20) (c := 2) (.ref 73) rfl in_X3 0 (by decide) q1107 rfl (fun h => sh_k1 h 52 rfl) (fun h _ => fv_ref (Or.inr ⟨_, rfl⟩) (sh_r h 51 rfl)) dX3_takesBy_20 ?_
      refine J_bipush (pc := 23) 13 dX3_takesBy_23 (by decide) ?_
      refine J_ck (fun h1 => ?_)
      refine J_iald (pc := 25) (a := 73) (fun h => sh_a h 53 rfl h1) dX3_takesBy_25 ?_
      refine J_iload (pc := 26) dX3_takesBy_26 rfl ?_
      refine J_callS (pc := 28) (n := 2) (vs := [.int (M2.i 73 (ix 13)), .int v2]) (fun l => C_m_has l (M2.i 73 (ix 13)) v2 M2) (lw_S q1422 q1423 q118 q1424) nmh_X3_has rfl (by omega) (by decide) rfl (Nat.le_of_ble_eq_true rfl) dX3_takesBy_28 (fun v3 M3 => ?_)
      refine J_jn (P := fun J => ∀ (v4 : Int32) (M4 : PM), T_m_takesBy G  M4 140 [some (.ref 72), some (.int c1), some (.int c2), some (.int v4), some (.int v2), none, none] [] (J v4 M4)) (fun v4 M4 => ?_) (fun j1 hj1 => ?_)
      · refine J_iincL (pc := 140) (n := 1) (by decide) dX3_takesBy_140 rfl (by decide) (fun v5 => ?_)
        refine J_goto (pc := 143) 10 dX3_takesBy_143 rfl ?_
        exact J_sub (A := [some (.ref 72), some (.int c1), some (.int c2), some (.int v4), some (.int v5), none, none]) ⟨rfl, ⟨rfl, ⟨rfl, ⟨rfl, ⟨rfl, trivial⟩⟩⟩⟩⟩ (ih v4 v5 M4)
      refine J_if_ne (pc := 31) 140 dX3_takesBy_31 rfl (fun h => if_neg h) (fun h => if_pos h) (fun _ => ?_) (fun _ => ?_)
      · exact J_sub (A := [some (.ref 72), some (.int c1), some (.int c2), some (.int v1), some (.int v2), none, none]) ⟨rfl, ⟨rfl, ⟨rfl, ⟨rfl, ⟨rfl, trivial⟩⟩⟩⟩⟩ (hj1 v1 M3)
      · refine J_aload_n (pc := 34) dX3_takesBy_34 rfl ?_
        refine J_iload (pc := 35) dX3_takesBy_35 rfl ?_
        refine J_iconst (pc := 37) 2 dX3_takesBy_37 (by decide) ?_
        refine J_callV (pc := 38) (n := 2) (b := 72) (vs := [.int v2, .int 2]) (ci := 2) (fun l => C_m_field l v2 2 M3) (lw_V q1418 q1420 qs83 q118 q1421) nmv_X3_field rfl (by omega) (by decide) rfl (fun h => sh_k1 h 52 rfl) rfl (Nat.le_of_ble_eq_true rfl) dX3_takesBy_38 (fun v6 M5 => ?_)
        refine J_iload_n (pc := 41) dX3_takesBy_41 rfl ?_
        refine J_icmp_eq (pc := 42) 48 dX3_takesBy_42 rfl (fun h => if_pos h) (fun h => if_neg h) (fun _ => ?_) (fun _ => ?_)
        · refine J_ldcw (pc := 48) 100000000 q1536 dX3_takesBy_48 ?_
          refine J_istore (pc := 51) dX3_takesBy_51 (by decide) ?_
          refine J_iconst (pc := 53) 0 dX3_takesBy_53 (by decide) ?_
          refine J_istore (pc := 54) dX3_takesBy_54 (by decide) ?_
          refine J_sub (A := [some (.ref 72), some (.int c1), some (.int c2), some (.int v1), some (.int v2), some (.int 100000000), some (.int 0)]) ⟨rfl, ⟨rfl, ⟨rfl, ⟨rfl, ⟨rfl, ⟨rfl, ⟨rfl, trivial⟩⟩⟩⟩⟩⟩⟩ (t_m_takesBy_L56 G c1 c2 v1 v2 _ ?_ FU 100000000 0 M5)
          · intro v16 M12
            refine J_iload (pc := 110) dX3_takesBy_110 rfl ?_
            refine J_aload_n (pc := 112) dX3_takesBy_112 rfl ?_
            refine J_iload (pc := 113) dX3_takesBy_113 rfl ?_
            refine J_iconst (pc := 115) 3 dX3_takesBy_115 (by decide) ?_
            refine J_callV (pc := 116) (n := 2) (b := 72) (vs := [.int v2, .int 3]) (ci := 2) (fun l => C_m_field l v2 3 M12) (lw_V q1418 q1420 qs83 q118 q1421) nmv_X3_field rfl (by omega) (by decide) rfl (fun h => sh_k1 h 52 rfl) rfl (Nat.le_of_ble_eq_true rfl) dX3_takesBy_116 (fun v17 M13 => ?_)
            refine J_icmp_le (pc := 119) 125 dX3_takesBy_119 rfl (fun h => if_pos h) (fun h => if_neg h) (fun _ => ?_) (fun _ => ?_)
            · refine J_iload_n (pc := 125) dX3_takesBy_125 rfl ?_
              refine J_iload (pc := 126) dX3_takesBy_126 rfl ?_
              refine J_iadd (pc := 128) dX3_takesBy_128 ?_
              refine J_lt (β := Int32) (v := (v1 + v16)) (L := fun _ => _) (S := fun v18 => [.int v18]) (fun v18 => ?_)
              refine J_istore_n (pc := 129) dX3_takesBy_129 (by decide) ?_
              refine J_aload_n (pc := 130) dX3_takesBy_130 rfl ?_
              refine J_dup (pc := 131) dX3_takesBy_131 rfl ?_
              refine J_get (pc := 132) (c := 2) (.int (M13.i 72 43)) rfl in_X3 43 (by decide) q1150 rfl (fun h => sh_k1 h 52 rfl) (fun _ _ => rfl) dX3_takesBy_132 ?_
              refine J_iconst (pc := 135) 1 dX3_takesBy_135 (by decide) ?_
              refine J_iadd (pc := 136) dX3_takesBy_136 ?_
              refine J_put (pc := 137) (a := 72) (v := .int ((M13.i 72 43) + 1)) (M' := M13.si 72 43 ((M13.i 72 43) + 1)) (c := 2) rfl in_X3 tyX3_ok fnX3 43 (by decide) q1150 rfl (Or.inl rfl) (fun h => sh_k1 h 52 rfl) (fun _ => rfl) (fun _ => rfl) ⟨⟨rfl, rfl⟩, rfl⟩ (fun _ hb => up2_same hb) (fun _ _ => rfl) (fun _ _ => rfl) (put_i (fun _ _ _ => rfl)) (fun h => Sh_si h) dX3_takesBy_137 ?_
              refine J_ltM (fun M14 => ?_)
              exact J_sub (A := [some (.ref 72), some (.int c1), some (.int c2), some (.int v18), some (.int v2), none, none]) ⟨rfl, ⟨rfl, ⟨rfl, ⟨rfl, ⟨rfl, trivial⟩⟩⟩⟩⟩ (hj1 v18 M14)
            · refine J_goto (pc := 122) 140 dX3_takesBy_122 rfl ?_
              exact J_sub (A := [some (.ref 72), some (.int c1), some (.int c2), some (.int v1), some (.int v2), none, none]) ⟨rfl, ⟨rfl, ⟨rfl, ⟨rfl, ⟨rfl, trivial⟩⟩⟩⟩⟩ (hj1 v1 M13)
        · refine J_goto (pc := 45) 140 dX3_takesBy_45 rfl ?_
          exact J_sub (A := [some (.ref 72), some (.int c1), some (.int c2), some (.int v1), some (.int v2), none, none]) ⟨rfl, ⟨rfl, ⟨rfl, ⟨rfl, ⟨rfl, trivial⟩⟩⟩⟩⟩ (hj1 v1 M5)

def m_takesBy (p1 : Int32) (p2 : Int32) (M : PM) : Option (Int32 × PM) :=
    lt (M.si 72 43 0) fun M1 =>
    m_takesBy_L10 p1 p2 FU 0 0 M1

set_option maxHeartbeats 4000000 in
theorem t_m_takesBy (G : JG) (p1 : Int32) (p2 : Int32) (M : PM) : T_m_takesBy G  M 0 (ent [.ref 72, .int p1, .int p2] 7) [] (m_takesBy p1 p2 M) := by
  unfold m_takesBy
  refine J_iconst (pc := 0) 0 dX3_takesBy_0 (by decide) ?_
  refine J_istore_n (pc := 1) dX3_takesBy_1 (by decide) ?_
  refine J_aload_n (pc := 2) dX3_takesBy_2 rfl ?_
  refine J_iconst (pc := 3) 0 dX3_takesBy_3 (by decide) ?_
  refine J_put (pc := 4) (a := 72) (v := .int 0) (M' := M.si 72 43 0) (c := 2) rfl in_X3 tyX3_ok fnX3 43 (by decide) q1150 rfl (Or.inl rfl) (fun h => sh_k1 h 52 rfl) (fun _ => rfl) (fun _ => rfl) ⟨⟨rfl, rfl⟩, rfl⟩ (fun _ hb => up2_same hb) (fun _ _ => rfl) (fun _ _ => rfl) (put_i (fun _ _ _ => rfl)) (fun h => Sh_si h) dX3_takesBy_4 ?_
  refine J_ltM (fun M1 => ?_)
  refine J_iconst (pc := 7) 0 dX3_takesBy_7 (by decide) ?_
  refine J_istore (pc := 8) dX3_takesBy_8 (by decide) ?_
  refine J_sub (A := [some (.ref 72), some (.int p1), some (.int p2), some (.int 0), some (.int 0), none, none]) ⟨rfl, ⟨rfl, ⟨rfl, ⟨rfl, ⟨rfl, trivial⟩⟩⟩⟩⟩ (t_m_takesBy_L10 G p1 p2  FU 0 0 M1)

theorem C_m_takesBy (l : Launch) (p1 : Int32) (p2 : Int32) (M : PM) : Ctr l Sh yX3_takesBy cX3_takesBy 7 (some .int) 143 rvI [.ref 72, .int p1, .int p2] M (m_takesBy p1 p2 M) := Ctr.of (by decide +kernel) (Nat.le_of_ble_eq_true rfl) (fun G => t_m_takesBy G p1 p2 M)

abbrev T_m_takes (G : JG) (M : PM) (pc : Nat) (L : List (Option Value)) (S : List Value) (o : Option (Int32 × PM)) : Prop := JJ G cX3_takes yX3_takes 4 144 (some .int) Sh (finR G Sh rvI) M pc L S o
def m_takes (p1 : Int32) (p2 : Int32) (M : PM) : Option (Int32 × PM) :=
    lt (M.si 72 13 0) fun M1 =>
    bd (m_isStation p1 M1) fun v1 M2 =>
    if v1 = 0 then (some ((-1), M2))
    else (bd (m_in p2 0 99 M2) fun v2 M3 =>
    if v2 = 0 then (some ((-1), M3))
    else (bd (m_takesBy p1 p2 M3) fun v3 M4 =>
    lt (M4.si 72 12 0) fun M5 =>
    bd (m_tell (Int32.toInt64 (M5.i 72 43)) M5) fun _ M6 =>
    some (v3, M6)))

set_option maxHeartbeats 4000000 in
theorem t_m_takes (G : JG) (p1 : Int32) (p2 : Int32) (M : PM) : T_m_takes G  M 0 (ent [.ref 72, .int p1, .int p2] 4) [] (m_takes p1 p2 M) := by
  unfold m_takes
  refine J_aload_n (pc := 0) dX3_takes_0 rfl ?_
  refine J_iconst (pc := 1) 0 dX3_takes_1 (by decide) ?_
  refine J_put (pc := 2) (a := 72) (v := .int 0) (M' := M.si 72 13 0) (c := 2) rfl in_X3 tyX3_ok fnX3 13 (by decide) q1120 rfl (Or.inl rfl) (fun h => sh_k1 h 52 rfl) (fun _ => rfl) (fun _ => rfl) ⟨⟨rfl, rfl⟩, rfl⟩ (fun _ hb => up2_same hb) (fun _ _ => rfl) (fun _ _ => rfl) (put_i (fun _ _ _ => rfl)) (fun h => Sh_si h) dX3_takes_2 ?_
  refine J_ltM (fun M1 => ?_)
  refine J_aload_n (pc := 5) dX3_takes_5 rfl ?_
  refine J_iload_n (pc := 6) dX3_takes_6 rfl ?_
  refine J_callV (pc := 7) (n := 1) (b := 72) (vs := [.int p1]) (ci := 2) (fun l => C_m_isStation l p1 M1) (lw_V q1433 q1435 qs84 q118 q1436) nmv_X3_isStation rfl (by omega) (by decide) rfl (fun h => sh_k1 h 52 rfl) rfl (Nat.le_of_ble_eq_true rfl) dX3_takes_7 (fun v1 M2 => ?_)
  refine J_if_eq (pc := 10) 23 dX3_takes_10 rfl (fun h => if_pos h) (fun h => if_neg h) (fun _ => ?_) (fun _ => ?_)
  · refine J_iconst (pc := 23) (-1) dX3_takes_23 (by decide) ?_
    exact J_iret (pc := 24) dX3_takes_24
  · refine J_iload_n (pc := 13) dX3_takes_13 rfl ?_
    refine J_iconst (pc := 14) 0 dX3_takes_14 (by decide) ?_
    refine J_bipush (pc := 15) 99 dX3_takes_15 (by decide) ?_
    refine J_callS (pc := 17) (n := 3) (vs := [.int p2, .int 0, .int 99]) (fun l => C_m_in l p2 0 99 M2) (lw_S q1289 q1290 q118 q1291) nmh_X3_in rfl (by omega) (by decide) rfl (Nat.le_of_ble_eq_true rfl) dX3_takes_17 (fun v2 M3 => ?_)
    refine J_if_ne (pc := 20) 25 dX3_takes_20 rfl (fun h => if_neg h) (fun h => if_pos h) (fun _ => ?_) (fun _ => ?_)
    · refine J_aload_n (pc := 25) dX3_takes_25 rfl ?_
      refine J_iload_n (pc := 26) dX3_takes_26 rfl ?_
      refine J_iload_n (pc := 27) dX3_takes_27 rfl ?_
      refine J_callV (pc := 28) (n := 2) (b := 72) (vs := [.int p1, .int p2]) (ci := 2) (fun l => C_m_takesBy l p1 p2 M3) (lw_V q1629 q1631 qs108 q118 q1632) nmv_X3_takesBy rfl (by omega) (by decide) rfl (fun h => sh_k1 h 52 rfl) rfl (Nat.le_of_ble_eq_true rfl) dX3_takes_28 (fun v3 M4 => ?_)
      refine J_istore_n (pc := 31) dX3_takes_31 (by decide) ?_
      refine J_aload_n (pc := 32) dX3_takes_32 rfl ?_
      refine J_iconst (pc := 33) 0 dX3_takes_33 (by decide) ?_
      refine J_put (pc := 34) (a := 72) (v := .int 0) (M' := M4.si 72 12 0) (c := 2) rfl in_X3 tyX3_ok fnX3 12 (by decide) q1119 rfl (Or.inl rfl) (fun h => sh_k1 h 52 rfl) (fun _ => rfl) (fun _ => rfl) ⟨⟨rfl, rfl⟩, rfl⟩ (fun _ hb => up2_same hb) (fun _ _ => rfl) (fun _ _ => rfl) (put_i (fun _ _ _ => rfl)) (fun h => Sh_si h) dX3_takes_34 ?_
      refine J_ltM (fun M5 => ?_)
      refine J_aload_n (pc := 37) dX3_takes_37 rfl ?_
      refine J_aload_n (pc := 38) dX3_takes_38 rfl ?_
      refine J_get (pc := 39) (c := 2) (.int (M5.i 72 43)) rfl in_X3 43 (by decide) q1150 rfl (fun h => sh_k1 h 52 rfl) (fun _ _ => rfl) dX3_takes_39 ?_
      refine J_i2l (pc := 42) dX3_takes_42 ?_
      refine J_callV (pc := 43) (n := 1) (b := 72) (vs := [.long (Int32.toInt64 (M5.i 72 43))]) (ci := 2) (fun l => C_m_tell l (Int32.toInt64 (M5.i 72 43)) M5) (lw_V q1455 q1457 qs87 q118 q1458) nmv_X3_tell rfl (by omega) (by decide) rfl (fun h => sh_k1 h 52 rfl) rfl (Nat.le_of_ble_eq_true rfl) dX3_takes_43 (fun _ M6 => ?_)
      refine J_iload_n (pc := 46) dX3_takes_46 rfl ?_
      exact J_iret (pc := 47) dX3_takes_47
    · refine J_iconst (pc := 23) (-1) dX3_takes_23 (by decide) ?_
      exact J_iret (pc := 24) dX3_takes_24

theorem C_m_takes (l : Launch) (p1 : Int32) (p2 : Int32) (M : PM) : Ctr l Sh yX3_takes cX3_takes 4 (some .int) 144 rvI [.ref 72, .int p1, .int p2] M (m_takes p1 p2 M) := Ctr.of (by decide +kernel) (Nat.le_of_ble_eq_true rfl) (fun G => t_m_takes G p1 p2 M)

abbrev T_m_greed (G : JG) (M : PM) (pc : Nat) (L : List (Option Value)) (S : List Value) (o : Option (Int32 × PM)) : Prop := JJ G cX3_greed yX3_greed 7 144 (some .int) Sh (finR G Sh rvI) M pc L S o
def m_greed_L30 (c1 : Int32) (c4 : Int32) (k67 : Int32 → Int32 → PM → Option (Int32 × PM)) : Nat → Int32 → Int32 → Int32 → PM → Option (Int32 × PM)
  | 0, _, _, _, _ => none
  | n + 1, v3, v4, v5, M4 =>
    if 99 < v5 then (k67 v3 v4 M4)
    else (bd (m_takesBy c1 v5 M4) fun v6 M5 =>
    jn (fun (v7 : Int32) (v8 : Int32) (M6 : PM) =>
    lt (v5 + 1) fun v9 =>
    m_greed_L30 c1 c4 k67 n v7 v8 v9 M6) fun j1 =>
    if v4 < v6 then (j1 v5 v6 M5)
    else (j1 v3 v4 M5))

set_option maxHeartbeats 4000000 in
theorem t_m_greed_L30 (G : JG) (c1 : Int32) (c4 : Int32) (k67 : Int32 → Int32 → PM → Option (Int32 × PM)) (hk67 : ∀ z2 z3 Me, T_m_greed G  Me 67 [some (.ref 72), none, some (.int z2), some (.int z3), some (.int c4), none, none] [] (k67 z2 z3 Me)) : ∀ (n : Nat) (v3 : Int32) (v4 : Int32) (v5 : Int32) (M4 : PM), T_m_greed G  M4 30 [some (.ref 72), some (.int c1), some (.int v3), some (.int v4), some (.int c4), some (.int v5), none] [] (m_greed_L30 c1 c4 k67 n v3 v4 v5 M4) := by
  intro n
  induction n with
  | zero =>
    intro v3 v4 v5 M4
    exact J_none
  | succ n ih =>
    intro v3 v4 v5 M4
    rw [m_greed_L30]
    refine J_iload (pc := 30) dX3_greed_30 rfl ?_
    refine J_bipush (pc := 32) 99 dX3_greed_32 (by decide) ?_
    refine J_icmp_gt (pc := 34) 67 dX3_greed_34 rfl (fun h => if_pos h) (fun h => if_neg h) (fun _ => ?_) (fun _ => ?_)
    · exact J_sub (A := [some (.ref 72), none, some (.int v3), some (.int v4), some (.int c4), none, none]) ⟨rfl, ⟨rfl, ⟨rfl, ⟨rfl, trivial⟩⟩⟩⟩ (hk67 v3 v4 M4)
    · refine J_aload_n (pc := 37) dX3_greed_37 rfl ?_
      refine J_iload_n (pc := 38) dX3_greed_38 rfl ?_
      refine J_iload (pc := 39) dX3_greed_39 rfl ?_
      refine J_callV (pc := 41) (n := 2) (b := 72) (vs := [.int c1, .int v5]) (ci := 2) (fun l => C_m_takesBy l c1 v5 M4) (lw_V q1629 q1631 qs108 q118 q1632) nmv_X3_takesBy rfl (by omega) (by decide) rfl (fun h => sh_k1 h 52 rfl) rfl (Nat.le_of_ble_eq_true rfl) dX3_greed_41 (fun v6 M5 => ?_)
      refine J_istore (pc := 44) dX3_greed_44 (by decide) ?_
      refine J_iload (pc := 46) dX3_greed_46 rfl ?_
      refine J_iload_n (pc := 48) dX3_greed_48 rfl ?_
      refine J_jn (P := fun J => ∀ (v7 : Int32) (v8 : Int32) (M6 : PM), T_m_greed G  M6 61 [some (.ref 72), some (.int c1), some (.int v7), some (.int v8), some (.int c4), some (.int v5), none] [] (J v7 v8 M6)) (fun v7 v8 M6 => ?_) (fun j1 hj1 => ?_)
      · refine J_iincL (pc := 61) (n := 1) (by decide) dX3_greed_61 rfl (by decide) (fun v9 => ?_)
        refine J_goto (pc := 64) 30 dX3_greed_64 rfl ?_
        exact J_sub (A := [some (.ref 72), some (.int c1), some (.int v7), some (.int v8), some (.int c4), some (.int v9), none]) ⟨rfl, ⟨rfl, ⟨rfl, ⟨rfl, ⟨rfl, ⟨rfl, trivial⟩⟩⟩⟩⟩⟩ (ih v7 v8 v9 M6)
      refine J_icmp_gt (pc := 49) 55 dX3_greed_49 rfl (fun h => if_pos h) (fun h => if_neg h) (fun _ => ?_) (fun _ => ?_)
      · refine J_iload (pc := 55) dX3_greed_55 rfl ?_
        refine J_istore_n (pc := 57) dX3_greed_57 (by decide) ?_
        refine J_iload (pc := 58) dX3_greed_58 rfl ?_
        refine J_istore_n (pc := 60) dX3_greed_60 (by decide) ?_
        exact J_sub (A := [some (.ref 72), some (.int c1), some (.int v5), some (.int v6), some (.int c4), some (.int v5), none]) ⟨rfl, ⟨rfl, ⟨rfl, ⟨rfl, ⟨rfl, ⟨rfl, trivial⟩⟩⟩⟩⟩⟩ (hj1 v5 v6 M5)
      · refine J_goto (pc := 52) 61 dX3_greed_52 rfl ?_
        exact J_sub (A := [some (.ref 72), some (.int c1), some (.int v3), some (.int v4), some (.int c4), some (.int v5), none]) ⟨rfl, ⟨rfl, ⟨rfl, ⟨rfl, ⟨rfl, ⟨rfl, trivial⟩⟩⟩⟩⟩⟩ (hj1 v3 v4 M5)

def m_greed (p1 : Int32) (M : PM) : Option (Int32 × PM) :=
    lt (M.si 72 13 0) fun M1 =>
    bd (m_isStation p1 M1) fun v1 M2 =>
    if v1 = 0 then (some ((-1), M2))
    else (bd (m_takesBy p1 0 M2) fun v2 M3 =>
    m_greed_L30 p1 v2 (fun (v10 : Int32) (v11 : Int32) (M7 : PM) =>
    lt (M7.si 72 12 0) fun M8 =>
    bd (m_tell (Int32.toInt64 v11) M8) fun _ M9 =>
    bd (m_tell (Int32.toInt64 v2) M9) fun _ M10 =>
    some (v10, M10)) FU 0 v2 1 M3)

set_option maxHeartbeats 4000000 in
theorem t_m_greed (G : JG) (p1 : Int32) (M : PM) : T_m_greed G  M 0 (ent [.ref 72, .int p1] 7) [] (m_greed p1 M) := by
  unfold m_greed
  refine J_aload_n (pc := 0) dX3_greed_0 rfl ?_
  refine J_iconst (pc := 1) 0 dX3_greed_1 (by decide) ?_
  refine J_put (pc := 2) (a := 72) (v := .int 0) (M' := M.si 72 13 0) (c := 2) rfl in_X3 tyX3_ok fnX3 13 (by decide) q1120 rfl (Or.inl rfl) (fun h => sh_k1 h 52 rfl) (fun _ => rfl) (fun _ => rfl) ⟨⟨rfl, rfl⟩, rfl⟩ (fun _ hb => up2_same hb) (fun _ _ => rfl) (fun _ _ => rfl) (put_i (fun _ _ _ => rfl)) (fun h => Sh_si h) dX3_greed_2 ?_
  refine J_ltM (fun M1 => ?_)
  refine J_aload_n (pc := 5) dX3_greed_5 rfl ?_
  refine J_iload_n (pc := 6) dX3_greed_6 rfl ?_
  refine J_callV (pc := 7) (n := 1) (b := 72) (vs := [.int p1]) (ci := 2) (fun l => C_m_isStation l p1 M1) (lw_V q1433 q1435 qs84 q118 q1436) nmv_X3_isStation rfl (by omega) (by decide) rfl (fun h => sh_k1 h 52 rfl) rfl (Nat.le_of_ble_eq_true rfl) dX3_greed_7 (fun v1 M2 => ?_)
  refine J_if_ne (pc := 10) 15 dX3_greed_10 rfl (fun h => if_neg h) (fun h => if_pos h) (fun _ => ?_) (fun _ => ?_)
  · refine J_iconst (pc := 15) 0 dX3_greed_15 (by decide) ?_
    refine J_istore_n (pc := 16) dX3_greed_16 (by decide) ?_
    refine J_aload_n (pc := 17) dX3_greed_17 rfl ?_
    refine J_iload_n (pc := 18) dX3_greed_18 rfl ?_
    refine J_iconst (pc := 19) 0 dX3_greed_19 (by decide) ?_
    refine J_callV (pc := 20) (n := 2) (b := 72) (vs := [.int p1, .int 0]) (ci := 2) (fun l => C_m_takesBy l p1 0 M2) (lw_V q1629 q1631 qs108 q118 q1632) nmv_X3_takesBy rfl (by omega) (by decide) rfl (fun h => sh_k1 h 52 rfl) rfl (Nat.le_of_ble_eq_true rfl) dX3_greed_20 (fun v2 M3 => ?_)
    refine J_istore_n (pc := 23) dX3_greed_23 (by decide) ?_
    refine J_iload_n (pc := 24) dX3_greed_24 rfl ?_
    refine J_istore (pc := 25) dX3_greed_25 (by decide) ?_
    refine J_iconst (pc := 27) 1 dX3_greed_27 (by decide) ?_
    refine J_istore (pc := 28) dX3_greed_28 (by decide) ?_
    refine J_sub (A := [some (.ref 72), some (.int p1), some (.int 0), some (.int v2), some (.int v2), some (.int 1), none]) ⟨rfl, ⟨rfl, ⟨rfl, ⟨rfl, ⟨rfl, ⟨rfl, trivial⟩⟩⟩⟩⟩⟩ (t_m_greed_L30 G p1 v2 _ ?_ FU 0 v2 1 M3)
    · intro v10 v11 M7
      refine J_aload_n (pc := 67) dX3_greed_67 rfl ?_
      refine J_iconst (pc := 68) 0 dX3_greed_68 (by decide) ?_
      refine J_put (pc := 69) (a := 72) (v := .int 0) (M' := M7.si 72 12 0) (c := 2) rfl in_X3 tyX3_ok fnX3 12 (by decide) q1119 rfl (Or.inl rfl) (fun h => sh_k1 h 52 rfl) (fun _ => rfl) (fun _ => rfl) ⟨⟨rfl, rfl⟩, rfl⟩ (fun _ hb => up2_same hb) (fun _ _ => rfl) (fun _ _ => rfl) (put_i (fun _ _ _ => rfl)) (fun h => Sh_si h) dX3_greed_69 ?_
      refine J_ltM (fun M8 => ?_)
      refine J_aload_n (pc := 72) dX3_greed_72 rfl ?_
      refine J_iload_n (pc := 73) dX3_greed_73 rfl ?_
      refine J_i2l (pc := 74) dX3_greed_74 ?_
      refine J_callV (pc := 75) (n := 1) (b := 72) (vs := [.long (Int32.toInt64 v11)]) (ci := 2) (fun l => C_m_tell l (Int32.toInt64 v11) M8) (lw_V q1455 q1457 qs87 q118 q1458) nmv_X3_tell rfl (by omega) (by decide) rfl (fun h => sh_k1 h 52 rfl) rfl (Nat.le_of_ble_eq_true rfl) dX3_greed_75 (fun _ M9 => ?_)
      refine J_aload_n (pc := 78) dX3_greed_78 rfl ?_
      refine J_iload (pc := 79) dX3_greed_79 rfl ?_
      refine J_i2l (pc := 81) dX3_greed_81 ?_
      refine J_callV (pc := 82) (n := 1) (b := 72) (vs := [.long (Int32.toInt64 v2)]) (ci := 2) (fun l => C_m_tell l (Int32.toInt64 v2) M9) (lw_V q1455 q1457 qs87 q118 q1458) nmv_X3_tell rfl (by omega) (by decide) rfl (fun h => sh_k1 h 52 rfl) rfl (Nat.le_of_ble_eq_true rfl) dX3_greed_82 (fun _ M10 => ?_)
      refine J_iload_n (pc := 85) dX3_greed_85 rfl ?_
      exact J_iret (pc := 86) dX3_greed_86
  · refine J_iconst (pc := 13) (-1) dX3_greed_13 (by decide) ?_
    exact J_iret (pc := 14) dX3_greed_14

theorem C_m_greed (l : Launch) (p1 : Int32) (M : PM) : Ctr l Sh yX3_greed cX3_greed 7 (some .int) 144 rvI [.ref 72, .int p1] M (m_greed p1 M) := Ctr.of (by decide +kernel) (Nat.le_of_ble_eq_true rfl) (fun G => t_m_greed G p1 M)

abbrev T_m_law (G : JG) (M : PM) (pc : Nat) (L : List (Option Value)) (S : List Value) (o : Option (Int32 × PM)) : Prop := JJ G cX3_law yX3_law 10 143 (some .int) Sh (finR G Sh rvI) M pc L S o
def m_law_L42 (c1 : Int32) (c2 : Int32) (k68 : PM → Option (Int32 × PM)) : Nat → Int32 → PM → Option (Int32 × PM)
  | 0, _, _ => none
  | n + 1, v4, M4 =>
    if (M4.i 72 2) ≤ v4 then (k68 M4)
    else (bd (m_tollNow v4 c1 M4) fun v5 M5 =>
    ck v4 10 <|
    lt (M5.si 96 (ix v4) v5) fun M6 =>
    lt (v4 + 1) fun v6 =>
    m_law_L42 c1 c2 k68 n v6 M6)

set_option maxHeartbeats 4000000 in
theorem t_m_law_L42 (G : JG) (c1 : Int32) (c2 : Int32) (k68 : PM → Option (Int32 × PM)) (hk68 : ∀ Me, T_m_law G  Me 68 [some (.ref 72), some (.int c1), some (.int c2), none, none, none, none, none, none, none] [] (k68 Me)) : ∀ (n : Nat) (v4 : Int32) (M4 : PM), T_m_law G  M4 42 [some (.ref 72), some (.int c1), some (.int c2), some (.int v4), none, none, none, none, none, none] [] (m_law_L42 c1 c2 k68 n v4 M4) := by
  intro n
  induction n with
  | zero =>
    intro v4 M4
    exact J_none
  | succ n ih =>
    intro v4 M4
    rw [m_law_L42]
    refine J_iload_n (pc := 42) dX3_law_42 rfl ?_
    refine J_aload_n (pc := 43) dX3_law_43 rfl ?_
    refine J_get (pc := 44) (c := 2) (.int (M4.i 72 2)) rfl in_X3 2 (by decide) q1109 rfl (fun h => sh_k1 h 52 rfl) (fun _ _ => rfl) dX3_law_44 ?_
    refine J_icmp_ge (pc := 47) 68 dX3_law_47 rfl (fun h => if_pos h) (fun h => if_neg h) (fun _ => ?_) (fun _ => ?_)
    · exact J_sub (A := [some (.ref 72), some (.int c1), some (.int c2), none, none, none, none, none, none, none]) ⟨rfl, ⟨rfl, ⟨rfl, trivial⟩⟩⟩ (hk68 M4)
    · refine J_aload_n (pc := 50) dX3_law_50 rfl ?_
      refine J_get (pc := 51) (c := 2) (.ref 96) rfl in_X3 44 (by decide) q1151 rfl (fun h => sh_k1 h 52 rfl) (fun h _ => fv_ref (Or.inr ⟨_, rfl⟩) (sh_r h 72 rfl)) dX3_law_51 ?_
      refine J_iload_n (pc := 54) dX3_law_54 rfl ?_
      refine J_aload_n (pc := 55) dX3_law_55 rfl ?_
      refine J_iload_n (pc := 56) dX3_law_56 rfl ?_
      refine J_iload_n (pc := 57) dX3_law_57 rfl ?_
      refine J_callV (pc := 58) (n := 2) (b := 72) (vs := [.int v4, .int c1]) (ci := 2) (fun l => C_m_tollNow l v4 c1 M4) (lw_V q1447 q1449 qs85 q118 q1450) nmv_X3_tollNow rfl (by omega) (by decide) rfl (fun h => sh_k1 h 52 rfl) rfl (Nat.le_of_ble_eq_true rfl) dX3_law_58 (fun v5 M5 => ?_)
      refine J_ck (fun h1 => ?_)
      refine J_iast (pc := 61) (a := 96) (fun h => sh_a h 76 rfl h1) (fun h => Sh_si h) dX3_law_61 ?_
      refine J_ltM (fun M6 => ?_)
      refine J_iincL (pc := 62) (n := 1) (by decide) dX3_law_62 rfl (by decide) (fun v6 => ?_)
      refine J_goto (pc := 65) 42 dX3_law_65 rfl ?_
      exact J_sub (A := [some (.ref 72), some (.int c1), some (.int c2), some (.int v6), none, none, none, none, none, none]) ⟨rfl, ⟨rfl, ⟨rfl, ⟨rfl, trivial⟩⟩⟩⟩ (ih v6 M6)

def m_law_L95 (c1 : Int32) (c2 : Int32) (c3 : Option Nat) (c4 : Int32) (k121 : PM → Option (Int32 × PM)) : Nat → Int32 → PM → Option (Int32 × PM)
  | 0, _, _ => none
  | n + 1, v8, M10 =>
    if c2 ≤ v8 then (k121 M10)
    else (lt (M10.r 72 22) fun r3 =>
    ck v8 80 <|
    rf r3 fun a1 =>
    cka M10 a1 21 v8 <|
    lt (M10.si a1 (ix v8) ((Int32.toInt8 (M10.i 78 (ix v8))).toInt32)) fun M11 =>
    lt (v8 + 1) fun v9 =>
    m_law_L95 c1 c2 c3 c4 k121 n v9 M11)

set_option maxHeartbeats 4000000 in
theorem t_m_law_L95 (G : JG) (c1 : Int32) (c2 : Int32) (c3 : Option Nat) (c4 : Int32) (k121 : PM → Option (Int32 × PM)) (hk121 : ∀ Me, T_m_law G  Me 121 [some (.ref 72), some (.int c1), none, some (va_rf c3), some (.int c4), none, none, none, none, none] [] (k121 Me)) : ∀ (n : Nat) (v8 : Int32) (M10 : PM), T_m_law G  M10 95 [some (.ref 72), some (.int c1), some (.int c2), some (va_rf c3), some (.int c4), some (.int v8), none, none, none, none] [] (m_law_L95 c1 c2 c3 c4 k121 n v8 M10) := by
  intro n
  induction n with
  | zero =>
    intro v8 M10
    exact J_none
  | succ n ih =>
    intro v8 M10
    rw [m_law_L95]
    refine J_iload (pc := 95) dX3_law_95 rfl ?_
    refine J_iload_n (pc := 97) dX3_law_97 rfl ?_
    refine J_icmp_ge (pc := 98) 121 dX3_law_98 rfl (fun h => if_pos h) (fun h => if_neg h) (fun _ => ?_) (fun _ => ?_)
    · exact J_sub (A := [some (.ref 72), some (.int c1), none, some (va_rf c3), some (.int c4), none, none, none, none, none]) ⟨rfl, ⟨rfl, ⟨(by first | rfl | simp only [kill2_rf]), ⟨rfl, trivial⟩⟩⟩⟩ (hk121 M10)
    · refine J_aload_n (pc := 101) dX3_law_101 rfl ?_
      refine J_getO (pc := 102) (c := 2) rfl in_X3 22 (by decide) q1129 rfl (fun h => sh_k1 h 52 rfl) (fun _ _ => fv_rf (Or.inr ⟨_, rfl⟩)) dX3_law_102 (fun r3 => ?_)
      refine J_iload (pc := 105) dX3_law_105 rfl ?_
      refine J_aload_n (pc := 107) dX3_law_107 rfl ?_
      refine J_get (pc := 108) (c := 2) (.ref 78) rfl in_X3 9 (by decide) q1116 rfl (fun h => sh_k1 h 52 rfl) (fun h _ => fv_ref (Or.inr ⟨_, rfl⟩) (sh_r h 56 rfl)) dX3_law_108 ?_
      refine J_iload (pc := 111) dX3_law_111 rfl ?_
      refine J_ck (fun h2 => ?_)
      refine J_bald (pc := 113) (a := 78) (fun h => sh_a h 58 rfl h2) dX3_law_113 ?_
      refine J_rfe (fun a1 ea1 => ?_)
      subst ea1
      refine J_cka (fun h3 h32 => ?_)
      refine J_bast (pc := 114) (a := a1) (fun _ => ⟨h3, h32⟩) (fun h => Sh_si h) dX3_law_114 ?_
      refine J_ltM (fun M11 => ?_)
      refine J_iincL (pc := 115) (n := 1) (by decide) dX3_law_115 rfl (by decide) (fun v9 => ?_)
      refine J_goto (pc := 118) 95 dX3_law_118 rfl ?_
      exact J_sub (A := [some (.ref 72), some (.int c1), some (.int c2), some (va_rf c3), some (.int c4), some (.int v9), none, none, none, none]) ⟨rfl, ⟨rfl, ⟨rfl, ⟨(by first | rfl | simp only [kill2_rf]), ⟨rfl, ⟨rfl, trivial⟩⟩⟩⟩⟩⟩ (ih v9 M11)

def m_law_L133 (c1 : Int32) (c3 : Option Nat) (c4 : Int32) (k202 : Int32 → Int32 → Int32 → PM → Option (Int32 × PM)) : Nat → Int32 → Int32 → Int32 → Int32 → PM → Option (Int32 × PM)
  | 0, _, _, _, _, _ => none
  | n + 1, v10, v11, v12, v13, M13 =>
    if (M13.i 72 2) ≤ v13 then (k202 v10 v11 v12 M13)
    else (bd (m_tollNow v13 c1 M13) fun v14 M14 =>
    ck v13 10 <|
    lt (v14 - (M14.i 96 (ix v13))) fun v15 =>
    lt (if v15 ≤ 0 then 0 else 1 : Int32) fun v16 =>
    lt (v10 + v16) fun v17 =>
    lt (if 0 ≤ v15 then 0 else 1 : Int32) fun v18 =>
    lt (v11 + v18) fun v19 =>
    lt (v12 + v15) fun v20 =>
    lt (v13 + 1) fun v21 =>
    m_law_L133 c1 c3 c4 k202 n v17 v19 v20 v21 M14)

set_option maxHeartbeats 4000000 in
theorem t_m_law_L133 (G : JG) (c1 : Int32) (c3 : Option Nat) (c4 : Int32) (k202 : Int32 → Int32 → Int32 → PM → Option (Int32 × PM)) (hk202 : ∀ z5 z6 z7 Me, T_m_law G  Me 202 [some (.ref 72), none, none, some (va_rf c3), some (.int c4), some (.int z5), some (.int z6), some (.int z7), none, none] [] (k202 z5 z6 z7 Me)) : ∀ (n : Nat) (v10 : Int32) (v11 : Int32) (v12 : Int32) (v13 : Int32) (M13 : PM), T_m_law G  M13 133 [some (.ref 72), some (.int c1), none, some (va_rf c3), some (.int c4), some (.int v10), some (.int v11), some (.int v12), some (.int v13), none] [] (m_law_L133 c1 c3 c4 k202 n v10 v11 v12 v13 M13) := by
  intro n
  induction n with
  | zero =>
    intro v10 v11 v12 v13 M13
    exact J_none
  | succ n ih =>
    intro v10 v11 v12 v13 M13
    rw [m_law_L133]
    refine J_iload (pc := 133) dX3_law_133 rfl ?_
    refine J_aload_n (pc := 135) dX3_law_135 rfl ?_
    refine J_get (pc := 136) (c := 2) (.int (M13.i 72 2)) rfl in_X3 2 (by decide) q1109 rfl (fun h => sh_k1 h 52 rfl) (fun _ _ => rfl) dX3_law_136 ?_
    refine J_icmp_ge (pc := 139) 202 dX3_law_139 rfl (fun h => if_pos h) (fun h => if_neg h) (fun _ => ?_) (fun _ => ?_)
    · exact J_sub (A := [some (.ref 72), none, none, some (va_rf c3), some (.int c4), some (.int v10), some (.int v11), some (.int v12), none, none]) ⟨rfl, ⟨(by first | rfl | simp only [kill2_rf]), ⟨rfl, ⟨rfl, ⟨rfl, ⟨rfl, trivial⟩⟩⟩⟩⟩⟩ (hk202 v10 v11 v12 M13)
    · refine J_aload_n (pc := 142) dX3_law_142 rfl ?_
      refine J_iload (pc := 143) dX3_law_143 rfl ?_
      refine J_iload_n (pc := 145) dX3_law_145 rfl ?_
      refine J_callV (pc := 146) (n := 2) (b := 72) (vs := [.int v13, .int c1]) (ci := 2) (fun l => C_m_tollNow l v13 c1 M13) (lw_V q1447 q1449 qs85 q118 q1450) nmv_X3_tollNow rfl (by omega) (by decide) rfl (fun h => sh_k1 h 52 rfl) rfl (Nat.le_of_ble_eq_true rfl) dX3_law_146 (fun v14 M14 => ?_)
      refine J_aload_n (pc := 149) dX3_law_149 rfl ?_
      refine J_get (pc := 150) (c := 2) (.ref 96) rfl in_X3 44 (by decide) q1151 rfl (fun h => sh_k1 h 52 rfl) (fun h _ => fv_ref (Or.inr ⟨_, rfl⟩) (sh_r h 72 rfl)) dX3_law_150 ?_
      refine J_iload (pc := 153) dX3_law_153 rfl ?_
      refine J_ck (fun h4 => ?_)
      refine J_iald (pc := 155) (a := 96) (fun h => sh_a h 76 rfl h4) dX3_law_155 ?_
      refine J_isub (pc := 156) dX3_law_156 ?_
      refine J_lt (β := Int32) (v := (v14 - (M14.i 96 (ix v13)))) (L := fun _ => _) (S := fun v15 => [.int v15]) (fun v15 => ?_)
      refine J_istore (pc := 157) dX3_law_157 (by decide) ?_
      refine J_iload (pc := 159) dX3_law_159 rfl ?_
      refine J_iload (pc := 161) dX3_law_161 rfl ?_
      refine J_ltj (β := Int32) (P := fun J => ∀ v16 : Int32, T_m_law G M14 171 [some (.ref 72), some (.int c1), none, some (va_rf c3), some (.int c4), none, some (.int v11), some (.int v12), some (.int v13), some (.int v15)] [.int v16, .int v10] (J v16)) (fun v16 => ?_) (fun j1 hj1 => ?_)
      · refine J_iadd (pc := 171) dX3_law_171 ?_
        refine J_lt (β := Int32) (v := (v10 + v16)) (L := fun _ => _) (S := fun v17 => [.int v17]) (fun v17 => ?_)
        refine J_istore (pc := 172) dX3_law_172 (by decide) ?_
        refine J_iload (pc := 174) dX3_law_174 rfl ?_
        refine J_iload (pc := 176) dX3_law_176 rfl ?_
        refine J_ltj (β := Int32) (P := fun J => ∀ v18 : Int32, T_m_law G M14 186 [some (.ref 72), some (.int c1), none, some (va_rf c3), some (.int c4), some (.int v17), none, some (.int v12), some (.int v13), some (.int v15)] [.int v18, .int v11] (J v18)) (fun v18 => ?_) (fun j2 hj2 => ?_)
        · refine J_iadd (pc := 186) dX3_law_186 ?_
          refine J_lt (β := Int32) (v := (v11 + v18)) (L := fun _ => _) (S := fun v19 => [.int v19]) (fun v19 => ?_)
          refine J_istore (pc := 187) dX3_law_187 (by decide) ?_
          refine J_iload (pc := 189) dX3_law_189 rfl ?_
          refine J_iload (pc := 191) dX3_law_191 rfl ?_
          refine J_iadd (pc := 193) dX3_law_193 ?_
          refine J_lt (β := Int32) (v := (v12 + v15)) (L := fun _ => _) (S := fun v20 => [.int v20]) (fun v20 => ?_)
          refine J_istore (pc := 194) dX3_law_194 (by decide) ?_
          refine J_iincL (pc := 196) (n := 1) (by decide) dX3_law_196 rfl (by decide) (fun v21 => ?_)
          refine J_goto (pc := 199) 133 dX3_law_199 rfl ?_
          exact J_sub (A := [some (.ref 72), some (.int c1), none, some (va_rf c3), some (.int c4), some (.int v17), some (.int v19), some (.int v20), some (.int v21), none]) ⟨rfl, ⟨rfl, ⟨(by first | rfl | simp only [kill2_rf]), ⟨rfl, ⟨rfl, ⟨rfl, ⟨rfl, ⟨rfl, trivial⟩⟩⟩⟩⟩⟩⟩⟩ (ih v17 v19 v20 v21 M14)
        refine J_if_ge (pc := 178) 185 dX3_law_178 rfl (fun h => congrArg j2 (if_pos h)) (fun h => congrArg j2 (if_neg h)) (fun _ => ?_) (fun _ => ?_)
        · refine J_iconst (pc := 185) 0 dX3_law_185 (by decide) ?_
          exact J_sub (A := [some (.ref 72), some (.int c1), none, some (va_rf c3), some (.int c4), some (.int v17), none, some (.int v12), some (.int v13), some (.int v15)]) ⟨rfl, ⟨rfl, ⟨(by first | rfl | simp only [kill2_rf]), ⟨rfl, ⟨rfl, ⟨rfl, ⟨rfl, ⟨rfl, trivial⟩⟩⟩⟩⟩⟩⟩⟩ (hj2 0)
        · refine J_iconst (pc := 181) 1 dX3_law_181 (by decide) ?_
          refine J_goto (pc := 182) 186 dX3_law_182 rfl ?_
          exact J_sub (A := [some (.ref 72), some (.int c1), none, some (va_rf c3), some (.int c4), some (.int v17), none, some (.int v12), some (.int v13), some (.int v15)]) ⟨rfl, ⟨rfl, ⟨(by first | rfl | simp only [kill2_rf]), ⟨rfl, ⟨rfl, ⟨rfl, ⟨rfl, ⟨rfl, trivial⟩⟩⟩⟩⟩⟩⟩⟩ (hj2 1)
      refine J_if_le (pc := 163) 170 dX3_law_163 rfl (fun h => congrArg j1 (if_pos h)) (fun h => congrArg j1 (if_neg h)) (fun _ => ?_) (fun _ => ?_)
      · refine J_iconst (pc := 170) 0 dX3_law_170 (by decide) ?_
        exact J_sub (A := [some (.ref 72), some (.int c1), none, some (va_rf c3), some (.int c4), none, some (.int v11), some (.int v12), some (.int v13), some (.int v15)]) ⟨rfl, ⟨rfl, ⟨(by first | rfl | simp only [kill2_rf]), ⟨rfl, ⟨rfl, ⟨rfl, ⟨rfl, ⟨rfl, trivial⟩⟩⟩⟩⟩⟩⟩⟩ (hj1 0)
      · refine J_iconst (pc := 166) 1 dX3_law_166 (by decide) ?_
        refine J_goto (pc := 167) 171 dX3_law_167 rfl ?_
        exact J_sub (A := [some (.ref 72), some (.int c1), none, some (va_rf c3), some (.int c4), none, some (.int v11), some (.int v12), some (.int v13), some (.int v15)]) ⟨rfl, ⟨rfl, ⟨(by first | rfl | simp only [kill2_rf]), ⟨rfl, ⟨rfl, ⟨rfl, ⟨rfl, ⟨rfl, trivial⟩⟩⟩⟩⟩⟩⟩⟩ (hj1 1)

def m_law (p1 : Int32) (M : PM) : Option (Int32 × PM) :=
    lt (M.si 72 13 0) fun M1 =>
    lt (M1.i 72 10) fun v1 =>
    bd (m_isStation p1 M1) fun v2 M2 =>
    if v2 = 0 then (lt (M2.si 72 10 0) fun M21 =>
    some ((-100), M21))
    else (bd (m_readRule M2) fun v3 M3 =>
    if v3 = 0 then (some (((-1) - (M3.i 72 18)), M3))
    else (m_law_L42 p1 v1 (fun (M7 : PM) =>
    lt (M7.r 72 22) fun r1 =>
    lt (M7.i 72 24) fun v7 =>
    lt (M7.r 72 23) fun r2 =>
    lt (M7.sr 72 22 r2) fun M8 =>
    lt (M8.si 72 24 v1) fun M9 =>
    m_law_L95 p1 v1 r1 v7 (fun (M12 : PM) =>
    m_law_L133 p1 r1 v7 (fun (v22 : Int32) (v23 : Int32) (v24 : Int32) (M15 : PM) =>
    lt (M15.sr 72 22 r1) fun M16 =>
    lt (M16.si 72 24 v7) fun M17 =>
    lt (M17.si 72 12 0) fun M18 =>
    bd (m_tell (Int32.toInt64 v23) M18) fun _ M19 =>
    bd (m_tell (Int32.toInt64 v24) M19) fun _ M20 =>
    some (v22, M20)) FU 0 0 0 0 M12) FU 0 M9) FU 0 M3))

set_option maxHeartbeats 4000000 in
theorem t_m_law (G : JG) (p1 : Int32) (M : PM) : T_m_law G  M 0 (ent [.ref 72, .int p1] 10) [] (m_law p1 M) := by
  unfold m_law
  refine J_aload_n (pc := 0) dX3_law_0 rfl ?_
  refine J_iconst (pc := 1) 0 dX3_law_1 (by decide) ?_
  refine J_put (pc := 2) (a := 72) (v := .int 0) (M' := M.si 72 13 0) (c := 2) rfl in_X3 tyX3_ok fnX3 13 (by decide) q1120 rfl (Or.inl rfl) (fun h => sh_k1 h 52 rfl) (fun _ => rfl) (fun _ => rfl) ⟨⟨rfl, rfl⟩, rfl⟩ (fun _ hb => up2_same hb) (fun _ _ => rfl) (fun _ _ => rfl) (put_i (fun _ _ _ => rfl)) (fun h => Sh_si h) dX3_law_2 ?_
  refine J_ltM (fun M1 => ?_)
  refine J_aload_n (pc := 5) dX3_law_5 rfl ?_
  refine J_get (pc := 6) (c := 2) (.int (M1.i 72 10)) rfl in_X3 10 (by decide) q1117 rfl (fun h => sh_k1 h 52 rfl) (fun _ _ => rfl) dX3_law_6 ?_
  refine J_lt (β := Int32) (v := (M1.i 72 10)) (L := fun _ => _) (S := fun v1 => [.int v1]) (fun v1 => ?_)
  refine J_istore_n (pc := 9) dX3_law_9 (by decide) ?_
  refine J_aload_n (pc := 10) dX3_law_10 rfl ?_
  refine J_iload_n (pc := 11) dX3_law_11 rfl ?_
  refine J_callV (pc := 12) (n := 1) (b := 72) (vs := [.int p1]) (ci := 2) (fun l => C_m_isStation l p1 M1) (lw_V q1433 q1435 qs84 q118 q1436) nmv_X3_isStation rfl (by omega) (by decide) rfl (fun h => sh_k1 h 52 rfl) rfl (Nat.le_of_ble_eq_true rfl) dX3_law_12 (fun v2 M2 => ?_)
  refine J_if_ne (pc := 15) 26 dX3_law_15 rfl (fun h => if_neg h) (fun h => if_pos h) (fun _ => ?_) (fun _ => ?_)
  · refine J_aload_n (pc := 26) dX3_law_26 rfl ?_
    refine J_callV (pc := 27) (n := 0) (b := 72) (vs := []) (ci := 2) (fun l => C_m_readRule l  M2) (lw_V q1356 q1358 qs71 q118 q1359) nmv_X3_readRule rfl (by omega) (by decide) rfl (fun h => sh_k1 h 52 rfl) rfl (Nat.le_of_ble_eq_true rfl) dX3_law_27 (fun v3 M3 => ?_)
    refine J_if_ne (pc := 30) 40 dX3_law_30 rfl (fun h => if_neg h) (fun h => if_pos h) (fun _ => ?_) (fun _ => ?_)
    · refine J_iconst (pc := 40) 0 dX3_law_40 (by decide) ?_
      refine J_istore_n (pc := 41) dX3_law_41 (by decide) ?_
      refine J_sub (A := [some (.ref 72), some (.int p1), some (.int v1), some (.int 0), none, none, none, none, none, none]) ⟨rfl, ⟨rfl, ⟨rfl, ⟨rfl, trivial⟩⟩⟩⟩ (t_m_law_L42 G p1 v1 _ ?_ FU 0 M3)
      · intro M7
        refine J_aload_n (pc := 68) dX3_law_68 rfl ?_
        refine J_getO (pc := 69) (c := 2) rfl in_X3 22 (by decide) q1129 rfl (fun h => sh_k1 h 52 rfl) (fun _ _ => fv_rf (Or.inr ⟨_, rfl⟩)) dX3_law_69 (fun r1 => ?_)
        refine J_astoreO_n (pc := 72) dX3_law_72 (by decide) ?_
        refine J_aload_n (pc := 73) dX3_law_73 rfl ?_
        refine J_get (pc := 74) (c := 2) (.int (M7.i 72 24)) rfl in_X3 24 (by decide) q1131 rfl (fun h => sh_k1 h 52 rfl) (fun _ _ => rfl) dX3_law_74 ?_
        refine J_lt (β := Int32) (v := (M7.i 72 24)) (L := fun _ => _) (S := fun v7 => [.int v7]) (fun v7 => ?_)
        refine J_istore (pc := 77) dX3_law_77 (by decide) ?_
        refine J_aload_n (pc := 79) dX3_law_79 rfl ?_
        refine J_aload_n (pc := 80) dX3_law_80 rfl ?_
        refine J_getO (pc := 81) (c := 2) rfl in_X3 23 (by decide) q1130 rfl (fun h => sh_k1 h 52 rfl) (fun _ _ => fv_rf (Or.inr ⟨_, rfl⟩)) dX3_law_81 (fun r2 => ?_)
        refine J_put (pc := 84) (a := 72) (v := va_rf r2) (M' := M7.sr 72 22 r2) (c := 2) rfl in_X3 tyX3_ok fnX3 22 (by decide) q1129 rfl (Or.inl rfl) (fun h => sh_k1 h 52 rfl) (fun ad => (nrw_r _ (Or.inr ⟨_, rfl⟩) r2 ad).1) (fun ad => (nrw_r _ (Or.inr ⟨_, rfl⟩) r2 ad).2) ⟨⟨rfl, rfl⟩, rfl⟩ (fun _ _ => rfl) (fun _ _ => rfl) (fun _ hb => up2_same hb) (put_r (fun _ _ _ => rfl)) (fun h => Sh_sr h (by decide)) dX3_law_84 ?_
        refine J_ltM (fun M8 => ?_)
        refine J_aload_n (pc := 87) dX3_law_87 rfl ?_
        refine J_iload_n (pc := 88) dX3_law_88 rfl ?_
        refine J_put (pc := 89) (a := 72) (v := .int v1) (M' := M8.si 72 24 v1) (c := 2) rfl in_X3 tyX3_ok fnX3 24 (by decide) q1131 rfl (Or.inl rfl) (fun h => sh_k1 h 52 rfl) (fun _ => rfl) (fun _ => rfl) ⟨⟨rfl, rfl⟩, rfl⟩ (fun _ hb => up2_same hb) (fun _ _ => rfl) (fun _ _ => rfl) (put_i (fun _ _ _ => rfl)) (fun h => Sh_si h) dX3_law_89 ?_
        refine J_ltM (fun M9 => ?_)
        refine J_iconst (pc := 92) 0 dX3_law_92 (by decide) ?_
        refine J_istore (pc := 93) dX3_law_93 (by decide) ?_
        refine J_sub (A := [some (.ref 72), some (.int p1), some (.int v1), some (va_rf r1), some (.int v7), some (.int 0), none, none, none, none]) ⟨rfl, ⟨rfl, ⟨rfl, ⟨(by first | rfl | simp only [kill2_rf]), ⟨rfl, ⟨rfl, trivial⟩⟩⟩⟩⟩⟩ (t_m_law_L95 G p1 v1 r1 v7 _ ?_ FU 0 M9)
        · intro M12
          refine J_iconst (pc := 121) 0 dX3_law_121 (by decide) ?_
          refine J_istore (pc := 122) dX3_law_122 (by decide) ?_
          refine J_iconst (pc := 124) 0 dX3_law_124 (by decide) ?_
          refine J_istore (pc := 125) dX3_law_125 (by decide) ?_
          refine J_iconst (pc := 127) 0 dX3_law_127 (by decide) ?_
          refine J_istore (pc := 128) dX3_law_128 (by decide) ?_
          refine J_iconst (pc := 130) 0 dX3_law_130 (by decide) ?_
          refine J_istore (pc := 131) dX3_law_131 (by decide) ?_
          refine J_sub (A := [some (.ref 72), some (.int p1), none, some (va_rf r1), some (.int v7), some (.int 0), some (.int 0), some (.int 0), some (.int 0), none]) ⟨rfl, ⟨rfl, ⟨(by first | rfl | simp only [kill2_rf]), ⟨rfl, ⟨rfl, ⟨rfl, ⟨rfl, ⟨rfl, trivial⟩⟩⟩⟩⟩⟩⟩⟩ (t_m_law_L133 G p1 r1 v7 _ ?_ FU 0 0 0 0 M12)
          · intro v22 v23 v24 M15
            refine J_aload_n (pc := 202) dX3_law_202 rfl ?_
            refine J_aloadO_n (pc := 203) dX3_law_203 rfl ?_
            refine J_put (pc := 204) (a := 72) (v := va_rf r1) (M' := M15.sr 72 22 r1) (c := 2) rfl in_X3 tyX3_ok fnX3 22 (by decide) q1129 rfl (Or.inl rfl) (fun h => sh_k1 h 52 rfl) (fun ad => (nrw_r _ (Or.inr ⟨_, rfl⟩) r1 ad).1) (fun ad => (nrw_r _ (Or.inr ⟨_, rfl⟩) r1 ad).2) ⟨⟨rfl, rfl⟩, rfl⟩ (fun _ _ => rfl) (fun _ _ => rfl) (fun _ hb => up2_same hb) (put_r (fun _ _ _ => rfl)) (fun h => Sh_sr h (by decide)) dX3_law_204 ?_
            refine J_ltM (fun M16 => ?_)
            refine J_aload_n (pc := 207) dX3_law_207 rfl ?_
            refine J_iload (pc := 208) dX3_law_208 rfl ?_
            refine J_put (pc := 210) (a := 72) (v := .int v7) (M' := M16.si 72 24 v7) (c := 2) rfl in_X3 tyX3_ok fnX3 24 (by decide) q1131 rfl (Or.inl rfl) (fun h => sh_k1 h 52 rfl) (fun _ => rfl) (fun _ => rfl) ⟨⟨rfl, rfl⟩, rfl⟩ (fun _ hb => up2_same hb) (fun _ _ => rfl) (fun _ _ => rfl) (put_i (fun _ _ _ => rfl)) (fun h => Sh_si h) dX3_law_210 ?_
            refine J_ltM (fun M17 => ?_)
            refine J_aload_n (pc := 213) dX3_law_213 rfl ?_
            refine J_iconst (pc := 214) 0 dX3_law_214 (by decide) ?_
            refine J_put (pc := 215) (a := 72) (v := .int 0) (M' := M17.si 72 12 0) (c := 2) rfl in_X3 tyX3_ok fnX3 12 (by decide) q1119 rfl (Or.inl rfl) (fun h => sh_k1 h 52 rfl) (fun _ => rfl) (fun _ => rfl) ⟨⟨rfl, rfl⟩, rfl⟩ (fun _ hb => up2_same hb) (fun _ _ => rfl) (fun _ _ => rfl) (put_i (fun _ _ _ => rfl)) (fun h => Sh_si h) dX3_law_215 ?_
            refine J_ltM (fun M18 => ?_)
            refine J_aload_n (pc := 218) dX3_law_218 rfl ?_
            refine J_iload (pc := 219) dX3_law_219 rfl ?_
            refine J_i2l (pc := 221) dX3_law_221 ?_
            refine J_callV (pc := 222) (n := 1) (b := 72) (vs := [.long (Int32.toInt64 v23)]) (ci := 2) (fun l => C_m_tell l (Int32.toInt64 v23) M18) (lw_V q1455 q1457 qs87 q118 q1458) nmv_X3_tell rfl (by omega) (by decide) rfl (fun h => sh_k1 h 52 rfl) rfl (Nat.le_of_ble_eq_true rfl) dX3_law_222 (fun _ M19 => ?_)
            refine J_aload_n (pc := 225) dX3_law_225 rfl ?_
            refine J_iload (pc := 226) dX3_law_226 rfl ?_
            refine J_i2l (pc := 228) dX3_law_228 ?_
            refine J_callV (pc := 229) (n := 1) (b := 72) (vs := [.long (Int32.toInt64 v24)]) (ci := 2) (fun l => C_m_tell l (Int32.toInt64 v24) M19) (lw_V q1455 q1457 qs87 q118 q1458) nmv_X3_tell rfl (by omega) (by decide) rfl (fun h => sh_k1 h 52 rfl) rfl (Nat.le_of_ble_eq_true rfl) dX3_law_229 (fun _ M20 => ?_)
            refine J_iload (pc := 232) dX3_law_232 rfl ?_
            exact J_iret (pc := 234) dX3_law_234
    · refine J_iconst (pc := 33) (-1) dX3_law_33 (by decide) ?_
      refine J_aload_n (pc := 34) dX3_law_34 rfl ?_
      refine J_get (pc := 35) (c := 2) (.int (M3.i 72 18)) rfl in_X3 18 (by decide) q1125 rfl (fun h => sh_k1 h 52 rfl) (fun _ _ => rfl) dX3_law_35 ?_
      refine J_isub (pc := 38) dX3_law_38 ?_
      exact J_iret (pc := 39) dX3_law_39
  · refine J_aload_n (pc := 18) dX3_law_18 rfl ?_
    refine J_iconst (pc := 19) 0 dX3_law_19 (by decide) ?_
    refine J_put (pc := 20) (a := 72) (v := .int 0) (M' := M2.si 72 10 0) (c := 2) rfl in_X3 tyX3_ok fnX3 10 (by decide) q1117 rfl (Or.inl rfl) (fun h => sh_k1 h 52 rfl) (fun _ => rfl) (fun _ => rfl) ⟨⟨rfl, rfl⟩, rfl⟩ (fun _ hb => up2_same hb) (fun _ _ => rfl) (fun _ _ => rfl) (put_i (fun _ _ _ => rfl)) (fun h => Sh_si h) dX3_law_20 ?_
    refine J_ltM (fun M21 => ?_)
    refine J_bipush (pc := 23) (-100) dX3_law_23 (by decide) ?_
    exact J_iret (pc := 25) dX3_law_25

theorem C_m_law (l : Launch) (p1 : Int32) (M : PM) : Ctr l Sh yX3_law cX3_law 10 (some .int) 143 rvI [.ref 72, .int p1] M (m_law p1 M) := Ctr.of (by decide +kernel) (Nat.le_of_ble_eq_true rfl) (fun G => t_m_law G p1 M)

abbrev T_m_isAll (G : JG) (M : PM) (pc : Nat) (L : List (Option Value)) (S : List Value) (o : Option (Int32 × PM)) : Prop := JJ G cX3_isAll yX3_isAll 5 1 (some .boolean) Sh (finR G Sh rvI) M pc L S o
def m_isAll_L10 (c2 : Int32) : Nat → Int32 → PM → Option (Int32 × PM)
  | 0, _, _ => none
  | n + 1, v2, M1 =>
    if c2 ≤ v2 then (some (1, M1))
    else (ck v2 5 <|
    lt (M1.i 97 (ix v2)) fun v3 =>
    if v3 = 0 then (lt (v2 + 1) fun v4 =>
    m_isAll_L10 c2 n v4 M1)
    else (some (0, M1)))

set_option maxHeartbeats 4000000 in
theorem t_m_isAll_L10 (G : JG) (c2 : Int32) : ∀ (n : Nat) (v2 : Int32) (M1 : PM), T_m_isAll G  M1 10 [none, some (.ref 97), some (.int c2), some (.int v2), none] [] (m_isAll_L10 c2 n v2 M1) := by
  intro n
  induction n with
  | zero =>
    intro v2 M1
    exact J_none
  | succ n ih =>
    intro v2 M1
    rw [m_isAll_L10]
    refine J_iload_n (pc := 10) dX3_isAll_10 rfl ?_
    refine J_iload_n (pc := 11) dX3_isAll_11 rfl ?_
    refine J_icmp_ge (pc := 12) 33 dX3_isAll_12 rfl (fun h => if_pos h) (fun h => if_neg h) (fun _ => ?_) (fun _ => ?_)
    · refine J_iconst (pc := 33) 1 dX3_isAll_33 (by decide) ?_
      exact J_zret (pc := 34) rfl dX3_isAll_34
    · refine J_aload_n (pc := 15) dX3_isAll_15 rfl ?_
      refine J_iload_n (pc := 16) dX3_isAll_16 rfl ?_
      refine J_ck (fun h1 => ?_)
      refine J_iald (pc := 17) (a := 97) (fun h => sh_a h 77 rfl h1) dX3_isAll_17 ?_
      refine J_lt (β := Int32) (v := (M1.i 97 (ix v2))) (L := fun _ => _) (S := fun v3 => [.int v3]) (fun v3 => ?_)
      refine J_istore (pc := 18) dX3_isAll_18 (by decide) ?_
      refine J_iload (pc := 20) dX3_isAll_20 rfl ?_
      refine J_if_eq (pc := 22) 27 dX3_isAll_22 rfl (fun h => if_pos h) (fun h => if_neg h) (fun _ => ?_) (fun _ => ?_)
      · refine J_iincL (pc := 27) (n := 1) (by decide) dX3_isAll_27 rfl (by decide) (fun v4 => ?_)
        refine J_goto (pc := 30) 10 dX3_isAll_30 rfl ?_
        exact J_sub (A := [none, some (.ref 97), some (.int c2), some (.int v4), none]) ⟨rfl, ⟨rfl, ⟨rfl, trivial⟩⟩⟩ (ih v4 M1)
      · refine J_iconst (pc := 25) 0 dX3_isAll_25 (by decide) ?_
        exact J_zret (pc := 26) rfl dX3_isAll_26

def m_isAll (M : PM) : Option (Int32 × PM) :=
    lt (Int32.ofNat (M.k 97).2) fun v1 =>
    m_isAll_L10 v1 FU 0 M

set_option maxHeartbeats 4000000 in
theorem t_m_isAll (G : JG) (M : PM) : T_m_isAll G  M 0 (ent [.ref 72] 5) [] (m_isAll M) := by
  unfold m_isAll
  refine J_aload_n (pc := 0) dX3_isAll_0 rfl ?_
  refine J_get (pc := 1) (c := 2) (.ref 97) rfl in_X3 45 (by decide) q1152 rfl (fun h => sh_k1 h 52 rfl) (fun h _ => fv_ref (Or.inr ⟨_, rfl⟩) (sh_r h 73 rfl)) dX3_isAll_1 ?_
  refine J_astore_n (pc := 4) dX3_isAll_4 (by decide) ?_
  refine J_aload_n (pc := 5) dX3_isAll_5 rfl ?_
  refine J_alen (pc := 6) (c := 20) (by decide) (by decide) (fun h => sh_k1 h 77 rfl) dX3_isAll_6 ?_
  refine J_lt (β := Int32) (v := (Int32.ofNat (M.k 97).2)) (L := fun _ => _) (S := fun v1 => [.int v1]) (fun v1 => ?_)
  refine J_istore_n (pc := 7) dX3_isAll_7 (by decide) ?_
  refine J_iconst (pc := 8) 0 dX3_isAll_8 (by decide) ?_
  refine J_istore_n (pc := 9) dX3_isAll_9 (by decide) ?_
  refine J_sub (A := [none, some (.ref 97), some (.int v1), some (.int 0), none]) ⟨rfl, ⟨rfl, ⟨rfl, trivial⟩⟩⟩ (t_m_isAll_L10 G v1  FU 0 M)

theorem C_m_isAll (l : Launch) (M : PM) : Ctr l Sh yX3_isAll cX3_isAll 5 (some .boolean) 1 rvI [.ref 72] M (m_isAll M) := Ctr.of (by decide +kernel) (Nat.le_of_ble_eq_true rfl) (fun G => t_m_isAll G M)

abbrev T_m_isFirst (G : JG) (M : PM) (pc : Nat) (L : List (Option Value)) (S : List Value) (o : Option (Int32 × PM)) : Prop := JJ G cX3_isFirst yX3_isFirst 3 1 (some .boolean) Sh (finR G Sh rvI) M pc L S o
def m_isFirst_L38 (c1 : Int32) (k58 : Int32 → PM → Option (Int32 × PM)) : Nat → Int32 → PM → Option (Int32 × PM)
  | 0, _, _ => none
  | n + 1, v1, M2 =>
    if c1 ≤ v1 then (some (0, M2))
    else (ck v1 4 <|
    ck v1 4 <|
    if (M2.i 98 (ix v1)) = (M2.i 99 (ix v1)) then (lt (v1 + 1) fun v2 =>
    m_isFirst_L38 c1 k58 n v2 M2)
    else (k58 v1 M2))

set_option maxHeartbeats 4000000 in
theorem t_m_isFirst_L38 (G : JG) (c1 : Int32) (k58 : Int32 → PM → Option (Int32 × PM)) (hk58 : ∀ z2 Me, T_m_isFirst G  Me 58 [some (.ref 72), none, some (.int z2)] [] (k58 z2 Me)) : ∀ (n : Nat) (v1 : Int32) (M2 : PM), T_m_isFirst G  M2 38 [some (.ref 72), some (.int c1), some (.int v1)] [] (m_isFirst_L38 c1 k58 n v1 M2) := by
  intro n
  induction n with
  | zero =>
    intro v1 M2
    exact J_none
  | succ n ih =>
    intro v1 M2
    rw [m_isFirst_L38]
    refine J_iload_n (pc := 38) dX3_isFirst_38 rfl ?_
    refine J_iload_n (pc := 39) dX3_isFirst_39 rfl ?_
    refine J_icmp_ge (pc := 40) 85 dX3_isFirst_40 rfl (fun h => if_pos h) (fun h => if_neg h) (fun _ => ?_) (fun _ => ?_)
    · refine J_iconst (pc := 85) 0 dX3_isFirst_85 (by decide) ?_
      exact J_zret (pc := 86) rfl dX3_isFirst_86
    · refine J_aload_n (pc := 43) dX3_isFirst_43 rfl ?_
      refine J_get (pc := 44) (c := 2) (.ref 98) rfl in_X3 46 (by decide) q1153 rfl (fun h => sh_k1 h 52 rfl) (fun h _ => fv_ref (Or.inr ⟨_, rfl⟩) (sh_r h 74 rfl)) dX3_isFirst_44 ?_
      refine J_iload_n (pc := 47) dX3_isFirst_47 rfl ?_
      refine J_ck (fun h1 => ?_)
      refine J_iald (pc := 48) (a := 98) (fun h => sh_a h 78 rfl h1) dX3_isFirst_48 ?_
      refine J_aload_n (pc := 49) dX3_isFirst_49 rfl ?_
      refine J_get (pc := 50) (c := 2) (.ref 99) rfl in_X3 47 (by decide) q1154 rfl (fun h => sh_k1 h 52 rfl) (fun h _ => fv_ref (Or.inr ⟨_, rfl⟩) (sh_r h 75 rfl)) dX3_isFirst_50 ?_
      refine J_iload_n (pc := 53) dX3_isFirst_53 rfl ?_
      refine J_ck (fun h2 => ?_)
      refine J_iald (pc := 54) (a := 99) (fun h => sh_a h 79 rfl h2) dX3_isFirst_54 ?_
      refine J_icmp_eq (pc := 55) 79 dX3_isFirst_55 rfl (fun h => if_pos h) (fun h => if_neg h) (fun _ => ?_) (fun _ => ?_)
      · refine J_iincL (pc := 79) (n := 1) (by decide) dX3_isFirst_79 rfl (by decide) (fun v2 => ?_)
        refine J_goto (pc := 82) 38 dX3_isFirst_82 rfl ?_
        exact J_sub (A := [some (.ref 72), some (.int c1), some (.int v2)]) ⟨rfl, ⟨rfl, ⟨rfl, trivial⟩⟩⟩ (ih v2 M2)
      · exact J_sub (A := [some (.ref 72), none, some (.int v1)]) ⟨rfl, ⟨rfl, trivial⟩⟩ (hk58 v1 M2)

def m_isFirst (p1 : Int32) (M : PM) : Option (Int32 × PM) :=
    jn (fun (M1 : PM) =>
    if (M1.i 72 49) = 0 then (some (1, M1))
    else (if (M1.i 72 48) ≤ p1 then (some (0, M1))
    else (some (1, M1)))) fun j1 =>
    if (M.i 72 49) = 0 then (j1 M)
    else (if p1 = (M.i 72 48) then (m_isFirst_L38 p1 (fun (v3 : Int32) (M3 : PM) =>
    ck v3 4 <|
    ck v3 4 <|
    if (M3.i 99 (ix v3)) ≤ (M3.i 98 (ix v3)) then (some (0, M3))
    else (some (1, M3))) FU 0 M)
    else (j1 M))

set_option maxHeartbeats 4000000 in
theorem t_m_isFirst (G : JG) (p1 : Int32) (M : PM) : T_m_isFirst G  M 0 (ent [.ref 72, .int p1] 3) [] (m_isFirst p1 M) := by
  unfold m_isFirst
  refine J_aload_n (pc := 0) dX3_isFirst_0 rfl ?_
  refine J_get (pc := 1) (c := 2) (.int (M.i 72 49)) rfl in_X3 49 (by decide) q1156 rfl (fun h => sh_k1 h 52 rfl) (fun _ _ => rfl) dX3_isFirst_1 ?_
  refine J_jn (P := fun J => ∀ (M1 : PM), T_m_isFirst G  M1 15 [some (.ref 72), some (.int p1), none] [] (J M1)) (fun M1 => ?_) (fun j1 hj1 => ?_)
  · refine J_aload_n (pc := 15) dX3_isFirst_15 rfl ?_
    refine J_get (pc := 16) (c := 2) (.int (M1.i 72 49)) rfl in_X3 49 (by decide) q1156 rfl (fun h => sh_k1 h 52 rfl) (fun _ _ => rfl) dX3_isFirst_16 ?_
    refine J_if_eq (pc := 19) 30 dX3_isFirst_19 rfl (fun h => if_pos h) (fun h => if_neg h) (fun _ => ?_) (fun _ => ?_)
    · refine J_iconst (pc := 30) 1 dX3_isFirst_30 (by decide) ?_
      refine J_goto (pc := 31) 35 dX3_isFirst_31 rfl ?_
      exact J_zret (pc := 35) rfl dX3_isFirst_35
    · refine J_iload_n (pc := 22) dX3_isFirst_22 rfl ?_
      refine J_aload_n (pc := 23) dX3_isFirst_23 rfl ?_
      refine J_get (pc := 24) (c := 2) (.int (M1.i 72 48)) rfl in_X3 48 (by decide) q1155 rfl (fun h => sh_k1 h 52 rfl) (fun _ _ => rfl) dX3_isFirst_24 ?_
      refine J_icmp_ge (pc := 27) 34 dX3_isFirst_27 rfl (fun h => if_pos h) (fun h => if_neg h) (fun _ => ?_) (fun _ => ?_)
      · refine J_iconst (pc := 34) 0 dX3_isFirst_34 (by decide) ?_
        exact J_zret (pc := 35) rfl dX3_isFirst_35
      · refine J_iconst (pc := 30) 1 dX3_isFirst_30 (by decide) ?_
        refine J_goto (pc := 31) 35 dX3_isFirst_31 rfl ?_
        exact J_zret (pc := 35) rfl dX3_isFirst_35
  refine J_if_eq (pc := 4) 15 dX3_isFirst_4 rfl (fun h => if_pos h) (fun h => if_neg h) (fun _ => ?_) (fun _ => ?_)
  · exact J_sub (A := [some (.ref 72), some (.int p1), none]) ⟨rfl, ⟨rfl, trivial⟩⟩ (hj1 M)
  · refine J_iload_n (pc := 7) dX3_isFirst_7 rfl ?_
    refine J_aload_n (pc := 8) dX3_isFirst_8 rfl ?_
    refine J_get (pc := 9) (c := 2) (.int (M.i 72 48)) rfl in_X3 48 (by decide) q1155 rfl (fun h => sh_k1 h 52 rfl) (fun _ _ => rfl) dX3_isFirst_9 ?_
    refine J_icmp_eq (pc := 12) 36 dX3_isFirst_12 rfl (fun h => if_pos h) (fun h => if_neg h) (fun _ => ?_) (fun _ => ?_)
    · refine J_iconst (pc := 36) 0 dX3_isFirst_36 (by decide) ?_
      refine J_istore_n (pc := 37) dX3_isFirst_37 (by decide) ?_
      refine J_sub (A := [some (.ref 72), some (.int p1), some (.int 0)]) ⟨rfl, ⟨rfl, ⟨rfl, trivial⟩⟩⟩ (t_m_isFirst_L38 G p1 _ ?_ FU 0 M)
      · intro v3 M3
        refine J_aload_n (pc := 58) dX3_isFirst_58 rfl ?_
        refine J_get (pc := 59) (c := 2) (.ref 98) rfl in_X3 46 (by decide) q1153 rfl (fun h => sh_k1 h 52 rfl) (fun h _ => fv_ref (Or.inr ⟨_, rfl⟩) (sh_r h 74 rfl)) dX3_isFirst_59 ?_
        refine J_iload_n (pc := 62) dX3_isFirst_62 rfl ?_
        refine J_ck (fun h3 => ?_)
        refine J_iald (pc := 63) (a := 98) (fun h => sh_a h 78 rfl h3) dX3_isFirst_63 ?_
        refine J_aload_n (pc := 64) dX3_isFirst_64 rfl ?_
        refine J_get (pc := 65) (c := 2) (.ref 99) rfl in_X3 47 (by decide) q1154 rfl (fun h => sh_k1 h 52 rfl) (fun h _ => fv_ref (Or.inr ⟨_, rfl⟩) (sh_r h 75 rfl)) dX3_isFirst_65 ?_
        refine J_iload_n (pc := 68) dX3_isFirst_68 rfl ?_
        refine J_ck (fun h4 => ?_)
        refine J_iald (pc := 69) (a := 99) (fun h => sh_a h 79 rfl h4) dX3_isFirst_69 ?_
        refine J_icmp_ge (pc := 70) 77 dX3_isFirst_70 rfl (fun h => if_pos h) (fun h => if_neg h) (fun _ => ?_) (fun _ => ?_)
        · refine J_iconst (pc := 77) 0 dX3_isFirst_77 (by decide) ?_
          exact J_zret (pc := 78) rfl dX3_isFirst_78
        · refine J_iconst (pc := 73) 1 dX3_isFirst_73 (by decide) ?_
          refine J_goto (pc := 74) 78 dX3_isFirst_74 rfl ?_
          exact J_zret (pc := 78) rfl dX3_isFirst_78
    · exact J_sub (A := [some (.ref 72), some (.int p1), none]) ⟨rfl, ⟨rfl, trivial⟩⟩ (hj1 M)

theorem C_m_isFirst (l : Launch) (p1 : Int32) (M : PM) : Ctr l Sh yX3_isFirst cX3_isFirst 3 (some .boolean) 1 rvI [.ref 72, .int p1] M (m_isFirst p1 M) := Ctr.of (by decide +kernel) (Nat.le_of_ble_eq_true rfl) (fun G => t_m_isFirst G p1 M)

abbrev T_m_take (G : JG) (M : PM) (pc : Nat) (L : List (Option Value)) (S : List Value) (o : Option (Unit × PM)) : Prop := JJ G cX3_take yX3_take 4 3 none Sh (finR G Sh rvU) M pc L S o
def m_take_L2 (c1 : Int32) (c2 : Int32) : Nat → Int32 → PM → Option (Unit × PM)
  | 0, _, _ => none
  | n + 1, v1, M1 =>
    if 5 ≤ v1 then (some ((), M1))
    else (ck v1 5 <|
    bd (m_often c1 v1 M1) fun v2 M2 =>
    ck v1 5 <|
    lt (M2.si 97 (ix v1) ((M1.i 97 (ix v1)) - (c2 * v2))) fun M3 =>
    lt (v1 + 1) fun v3 =>
    m_take_L2 c1 c2 n v3 M3)

set_option maxHeartbeats 4000000 in
theorem t_m_take_L2 (G : JG) (c1 : Int32) (c2 : Int32) : ∀ (n : Nat) (v1 : Int32) (M1 : PM), T_m_take G  M1 2 [some (.ref 72), some (.int c1), some (.int c2), some (.int v1)] [] (m_take_L2 c1 c2 n v1 M1) := by
  intro n
  induction n with
  | zero =>
    intro v1 M1
    exact J_none
  | succ n ih =>
    intro v1 M1
    rw [m_take_L2]
    refine J_iload_n (pc := 2) dX3_take_2 rfl ?_
    refine J_iconst (pc := 3) 5 dX3_take_3 (by decide) ?_
    refine J_icmp_ge (pc := 4) 30 dX3_take_4 rfl (fun h => if_pos h) (fun h => if_neg h) (fun _ => ?_) (fun _ => ?_)
    · exact J_ret (pc := 30) dX3_take_30
    · refine J_aload_n (pc := 7) dX3_take_7 rfl ?_
      refine J_get (pc := 8) (c := 2) (.ref 97) rfl in_X3 45 (by decide) q1152 rfl (fun h => sh_k1 h 52 rfl) (fun h _ => fv_ref (Or.inr ⟨_, rfl⟩) (sh_r h 73 rfl)) dX3_take_8 ?_
      refine J_iload_n (pc := 11) dX3_take_11 rfl ?_
      refine J_dup2 (pc := 12) dX3_take_12 rfl rfl ?_
      refine J_ck (fun h1 => ?_)
      refine J_iald (pc := 13) (a := 97) (fun h => sh_a h 77 rfl h1) dX3_take_13 ?_
      refine J_iload_n (pc := 14) dX3_take_14 rfl ?_
      refine J_aload_n (pc := 15) dX3_take_15 rfl ?_
      refine J_iload_n (pc := 16) dX3_take_16 rfl ?_
      refine J_iload_n (pc := 17) dX3_take_17 rfl ?_
      refine J_callV (pc := 18) (n := 2) (b := 72) (vs := [.int c1, .int v1]) (ci := 2) (fun l => C_m_often l c1 v1 M1) (lw_V q1395 q1397 qs79 q118 q1398) nmv_X3_often rfl (by omega) (by decide) rfl (fun h => sh_k1 h 52 rfl) rfl (Nat.le_of_ble_eq_true rfl) dX3_take_18 (fun v2 M2 => ?_)
      refine J_imul (pc := 21) dX3_take_21 ?_
      refine J_isub (pc := 22) dX3_take_22 ?_
      refine J_ck (fun h2 => ?_)
      refine J_iast (pc := 23) (a := 97) (fun h => sh_a h 77 rfl h2) (fun h => Sh_si h) dX3_take_23 ?_
      refine J_ltM (fun M3 => ?_)
      refine J_iincL (pc := 24) (n := 1) (by decide) dX3_take_24 rfl (by decide) (fun v3 => ?_)
      refine J_goto (pc := 27) 2 dX3_take_27 rfl ?_
      exact J_sub (A := [some (.ref 72), some (.int c1), some (.int c2), some (.int v3)]) ⟨rfl, ⟨rfl, ⟨rfl, ⟨rfl, trivial⟩⟩⟩⟩ (ih v3 M3)

def m_take (p1 : Int32) (p2 : Int32) (M : PM) : Option (Unit × PM) :=
    m_take_L2 p1 p2 FU 0 M

set_option maxHeartbeats 4000000 in
theorem t_m_take (G : JG) (p1 : Int32) (p2 : Int32) (M : PM) : T_m_take G  M 0 (ent [.ref 72, .int p1, .int p2] 4) [] (m_take p1 p2 M) := by
  unfold m_take
  refine J_iconst (pc := 0) 0 dX3_take_0 (by decide) ?_
  refine J_istore_n (pc := 1) dX3_take_1 (by decide) ?_
  refine J_sub (A := [some (.ref 72), some (.int p1), some (.int p2), some (.int 0)]) ⟨rfl, ⟨rfl, ⟨rfl, ⟨rfl, trivial⟩⟩⟩⟩ (t_m_take_L2 G p1 p2  FU 0 M)

theorem C_m_take (l : Launch) (p1 : Int32) (p2 : Int32) (M : PM) : Ctr l Sh yX3_take cX3_take 4 none 3 rvU [.ref 72, .int p1, .int p2] M (m_take p1 p2 M) := Ctr.of (by decide +kernel) (Nat.le_of_ble_eq_true rfl) (fun G => t_m_take G p1 p2 M)

abbrev T_b_m_goSaid (G : JG) (d : Nat) (M : PM) (pc : Nat) (L : List (Option Value)) (S : List Value) (o : Option (Unit × PM)) : Prop := JJ G cX3_goSaid yX3_goSaid 4 (d + 21) none Sh (finR G Sh rvU) M pc L S o
def b_m_goSaid_L61 (c2 : Int32) (f_goSaid : Int32 → Int32 → PM → Option (Unit × PM)) : Nat → Int32 → PM → Option (Unit × PM)
  | 0, _, _ => none
  | n + 1, v1, M2 =>
    if (M2.i 72 2) ≤ v1 then (some ((), M2))
    else (if 4 ≤ c2 then (some ((), M2))
    else (ck c2 4 <|
    lt (M2.si 98 (ix c2) v1) fun M3 =>
    bd (m_take v1 1 M3) fun _ M4 =>
    bd (f_goSaid v1 (c2 + 1) M4) fun _ M5 =>
    bd (m_take v1 (-1) M5) fun _ M6 =>
    lt (v1 + 1) fun v2 =>
    b_m_goSaid_L61 c2 f_goSaid n v2 M6))

set_option maxHeartbeats 4000000 in
theorem t_b_m_goSaid_L61 (G : JG) (d : Nat) (c2 : Int32) (f_goSaid : Int32 → Int32 → PM → Option (Unit × PM)) (h_goSaid : ∀ (b0 : Int32) (b1 : Int32) (M : PM) (l : Launch), Ctr l Sh yX3_goSaid cX3_goSaid 4 none (d + 20) rvU [.ref 72, .int b0, .int b1] M (f_goSaid b0 b1 M)) : ∀ (n : Nat) (v1 : Int32) (M2 : PM), T_b_m_goSaid G d M2 61 [some (.ref 72), none, some (.int c2), some (.int v1)] [] (b_m_goSaid_L61 c2 f_goSaid n v1 M2) := by
  intro n
  induction n with
  | zero =>
    intro v1 M2
    exact J_none
  | succ n ih =>
    intro v1 M2
    rw [b_m_goSaid_L61]
    refine J_iload_n (pc := 61) dX3_goSaid_61 rfl ?_
    refine J_aload_n (pc := 62) dX3_goSaid_62 rfl ?_
    refine J_get (pc := 63) (c := 2) (.int (M2.i 72 2)) rfl in_X3 2 (by decide) q1109 rfl (fun h => sh_k1 h 52 rfl) (fun _ _ => rfl) dX3_goSaid_63 ?_
    refine J_icmp_ge (pc := 66) 107 dX3_goSaid_66 rfl (fun h => if_pos h) (fun h => if_neg h) (fun _ => ?_) (fun _ => ?_)
    · exact J_ret (pc := 107) dX3_goSaid_107
    · refine J_iload_n (pc := 69) dX3_goSaid_69 rfl ?_
      refine J_iconst (pc := 70) 4 dX3_goSaid_70 (by decide) ?_
      refine J_icmp_ge (pc := 71) 107 dX3_goSaid_71 rfl (fun h => if_pos h) (fun h => if_neg h) (fun _ => ?_) (fun _ => ?_)
      · exact J_ret (pc := 107) dX3_goSaid_107
      · refine J_aload_n (pc := 74) dX3_goSaid_74 rfl ?_
        refine J_get (pc := 75) (c := 2) (.ref 98) rfl in_X3 46 (by decide) q1153 rfl (fun h => sh_k1 h 52 rfl) (fun h _ => fv_ref (Or.inr ⟨_, rfl⟩) (sh_r h 74 rfl)) dX3_goSaid_75 ?_
        refine J_iload_n (pc := 78) dX3_goSaid_78 rfl ?_
        refine J_iload_n (pc := 79) dX3_goSaid_79 rfl ?_
        refine J_ck (fun h1 => ?_)
        refine J_iast (pc := 80) (a := 98) (fun h => sh_a h 78 rfl h1) (fun h => Sh_si h) dX3_goSaid_80 ?_
        refine J_ltM (fun M3 => ?_)
        refine J_aload_n (pc := 81) dX3_goSaid_81 rfl ?_
        refine J_iload_n (pc := 82) dX3_goSaid_82 rfl ?_
        refine J_iconst (pc := 83) 1 dX3_goSaid_83 (by decide) ?_
        refine J_callV (pc := 84) (n := 2) (b := 72) (vs := [.int v1, .int 1]) (ci := 2) (fun l => C_m_take l v1 1 M3) (lw_V q1657 q1659 qs112 q118 q1660) nmv_X3_take rfl (by omega) (by decide) rfl (fun h => sh_k1 h 52 rfl) rfl (Nat.le_of_ble_eq_true rfl) dX3_goSaid_84 (fun _ M4 => ?_)
        refine J_aload_n (pc := 87) dX3_goSaid_87 rfl ?_
        refine J_iload_n (pc := 88) dX3_goSaid_88 rfl ?_
        refine J_iload_n (pc := 89) dX3_goSaid_89 rfl ?_
        refine J_iconst (pc := 90) 1 dX3_goSaid_90 (by decide) ?_
        refine J_iadd (pc := 91) dX3_goSaid_91 ?_
        refine J_callV (pc := 92) (n := 2) (b := 72) (vs := [.int v1, .int (c2 + 1)]) (ci := 2) (fun l => h_goSaid v1 (c2 + 1) M4 l) (lw_V q1645 q1647 qs109 q118 q1648) nmv_X3_goSaid rfl (by omega) (by decide) rfl (fun h => sh_k1 h 52 rfl) rfl (Nat.le_of_ble_eq_true rfl) dX3_goSaid_92 (fun _ M5 => ?_)
        refine J_aload_n (pc := 95) dX3_goSaid_95 rfl ?_
        refine J_iload_n (pc := 96) dX3_goSaid_96 rfl ?_
        refine J_iconst (pc := 97) (-1) dX3_goSaid_97 (by decide) ?_
        refine J_callV (pc := 98) (n := 2) (b := 72) (vs := [.int v1, .int (-1)]) (ci := 2) (fun l => C_m_take l v1 (-1) M5) (lw_V q1657 q1659 qs112 q118 q1660) nmv_X3_take rfl (by omega) (by decide) rfl (fun h => sh_k1 h 52 rfl) rfl (Nat.le_of_ble_eq_true rfl) dX3_goSaid_98 (fun _ M6 => ?_)
        refine J_iincL (pc := 101) (n := 1) (by decide) dX3_goSaid_101 rfl (by decide) (fun v2 => ?_)
        refine J_goto (pc := 104) 61 dX3_goSaid_104 rfl ?_
        exact J_sub (A := [some (.ref 72), none, some (.int c2), some (.int v2)]) ⟨rfl, ⟨rfl, ⟨rfl, trivial⟩⟩⟩ (ih v2 M6)

def b_m_goSaid_L26 (c1 : Int32) (c2 : Int32) (k49 : PM → Option (Unit × PM)) (f_goSaid : Int32 → Int32 → PM → Option (Unit × PM)) : Nat → Int32 → PM → Option (Unit × PM)
  | 0, _, _ => none
  | n + 1, v5, M12 =>
    if c2 ≤ v5 then (k49 M12)
    else (ck v5 4 <|
    ck v5 4 <|
    lt (M12.si 99 (ix v5) (M12.i 98 (ix v5))) fun M13 =>
    lt (v5 + 1) fun v6 =>
    b_m_goSaid_L26 c1 c2 k49 f_goSaid n v6 M13)

set_option maxHeartbeats 4000000 in
theorem t_b_m_goSaid_L26 (G : JG) (d : Nat) (c1 : Int32) (c2 : Int32) (k49 : PM → Option (Unit × PM)) (f_goSaid : Int32 → Int32 → PM → Option (Unit × PM)) (hk49 : ∀ Me, T_b_m_goSaid G d Me 49 [some (.ref 72), some (.int c1), some (.int c2), none] [] (k49 Me)) (h_goSaid : ∀ (b0 : Int32) (b1 : Int32) (M : PM) (l : Launch), Ctr l Sh yX3_goSaid cX3_goSaid 4 none (d + 20) rvU [.ref 72, .int b0, .int b1] M (f_goSaid b0 b1 M)) : ∀ (n : Nat) (v5 : Int32) (M12 : PM), T_b_m_goSaid G d M12 26 [some (.ref 72), some (.int c1), some (.int c2), some (.int v5)] [] (b_m_goSaid_L26 c1 c2 k49 f_goSaid n v5 M12) := by
  intro n
  induction n with
  | zero =>
    intro v5 M12
    exact J_none
  | succ n ih =>
    intro v5 M12
    rw [b_m_goSaid_L26]
    refine J_iload_n (pc := 26) dX3_goSaid_26 rfl ?_
    refine J_iload_n (pc := 27) dX3_goSaid_27 rfl ?_
    refine J_icmp_ge (pc := 28) 49 dX3_goSaid_28 rfl (fun h => if_pos h) (fun h => if_neg h) (fun _ => ?_) (fun _ => ?_)
    · exact J_sub (A := [some (.ref 72), some (.int c1), some (.int c2), none]) ⟨rfl, ⟨rfl, ⟨rfl, trivial⟩⟩⟩ (hk49 M12)
    · refine J_aload_n (pc := 31) dX3_goSaid_31 rfl ?_
      refine J_get (pc := 32) (c := 2) (.ref 99) rfl in_X3 47 (by decide) q1154 rfl (fun h => sh_k1 h 52 rfl) (fun h _ => fv_ref (Or.inr ⟨_, rfl⟩) (sh_r h 75 rfl)) dX3_goSaid_32 ?_
      refine J_iload_n (pc := 35) dX3_goSaid_35 rfl ?_
      refine J_aload_n (pc := 36) dX3_goSaid_36 rfl ?_
      refine J_get (pc := 37) (c := 2) (.ref 98) rfl in_X3 46 (by decide) q1153 rfl (fun h => sh_k1 h 52 rfl) (fun h _ => fv_ref (Or.inr ⟨_, rfl⟩) (sh_r h 74 rfl)) dX3_goSaid_37 ?_
      refine J_iload_n (pc := 40) dX3_goSaid_40 rfl ?_
      refine J_ck (fun h2 => ?_)
      refine J_iald (pc := 41) (a := 98) (fun h => sh_a h 78 rfl h2) dX3_goSaid_41 ?_
      refine J_ck (fun h3 => ?_)
      refine J_iast (pc := 42) (a := 99) (fun h => sh_a h 79 rfl h3) (fun h => Sh_si h) dX3_goSaid_42 ?_
      refine J_ltM (fun M13 => ?_)
      refine J_iincL (pc := 43) (n := 1) (by decide) dX3_goSaid_43 rfl (by decide) (fun v6 => ?_)
      refine J_goto (pc := 46) 26 dX3_goSaid_46 rfl ?_
      exact J_sub (A := [some (.ref 72), some (.int c1), some (.int c2), some (.int v6)]) ⟨rfl, ⟨rfl, ⟨rfl, ⟨rfl, trivial⟩⟩⟩⟩ (ih v6 M13)

def b_m_goSaid (f_goSaid : Int32 → Int32 → PM → Option (Unit × PM)) (p1 : Int32) (p2 : Int32) (M : PM) : Option (Unit × PM) :=
    jn (fun (M1 : PM) =>
    b_m_goSaid_L61 p2 f_goSaid FU p1 M1) fun j1 =>
    if p2 ≤ 0 then (j1 M)
    else (bd (m_isAll M) fun v3 M7 =>
    if v3 = 0 then (j1 M7)
    else (bd (m_isFirst p2 M7) fun v4 M8 =>
    jn (fun (M9 : PM) =>
    lt (M9.si 72 49 ((M9.i 72 49) + 1)) fun M10 =>
    j1 M10) fun j2 =>
    if v4 = 0 then (j2 M8)
    else (lt (M8.si 72 48 p2) fun M11 =>
    b_m_goSaid_L26 p1 p2 (fun (M14 : PM) =>
    j2 M14) f_goSaid FU 0 M11)))

set_option maxHeartbeats 4000000 in
theorem t_b_m_goSaid (G : JG) (d : Nat) (f_goSaid : Int32 → Int32 → PM → Option (Unit × PM)) (h_goSaid : ∀ (b0 : Int32) (b1 : Int32) (M : PM) (l : Launch), Ctr l Sh yX3_goSaid cX3_goSaid 4 none (d + 20) rvU [.ref 72, .int b0, .int b1] M (f_goSaid b0 b1 M)) (p1 : Int32) (p2 : Int32) (M : PM) : T_b_m_goSaid G d M 0 (ent [.ref 72, .int p1, .int p2] 4) [] (b_m_goSaid f_goSaid p1 p2 M) := by
  unfold b_m_goSaid
  refine J_iload_n (pc := 0) dX3_goSaid_0 rfl ?_
  refine J_jn (P := fun J => ∀ (M1 : PM), T_b_m_goSaid G d M1 59 [some (.ref 72), some (.int p1), some (.int p2), none] [] (J M1)) (fun M1 => ?_) (fun j1 hj1 => ?_)
  · refine J_iload_n (pc := 59) dX3_goSaid_59 rfl ?_
    refine J_istore_n (pc := 60) dX3_goSaid_60 (by decide) ?_
    refine J_sub (A := [some (.ref 72), none, some (.int p2), some (.int p1)]) ⟨rfl, ⟨rfl, ⟨rfl, trivial⟩⟩⟩ (t_b_m_goSaid_L61 G d p2 f_goSaid  h_goSaid FU p1 M1)
  refine J_if_le (pc := 1) 59 dX3_goSaid_1 rfl (fun h => if_pos h) (fun h => if_neg h) (fun _ => ?_) (fun _ => ?_)
  · exact J_sub (A := [some (.ref 72), some (.int p1), some (.int p2), none]) ⟨rfl, ⟨rfl, ⟨rfl, trivial⟩⟩⟩ (hj1 M)
  · refine J_aload_n (pc := 4) dX3_goSaid_4 rfl ?_
    refine J_callV (pc := 5) (n := 0) (b := 72) (vs := []) (ci := 2) (fun l => C_m_isAll l  M) (lw_V q1649 q1651 qs110 q118 q1652) nmv_X3_isAll rfl (by omega) (by decide) rfl (fun h => sh_k1 h 52 rfl) rfl (Nat.le_of_ble_eq_true rfl) dX3_goSaid_5 (fun v3 M7 => ?_)
    refine J_if_eq (pc := 8) 59 dX3_goSaid_8 rfl (fun h => if_pos h) (fun h => if_neg h) (fun _ => ?_) (fun _ => ?_)
    · exact J_sub (A := [some (.ref 72), some (.int p1), some (.int p2), none]) ⟨rfl, ⟨rfl, ⟨rfl, trivial⟩⟩⟩ (hj1 M7)
    · refine J_aload_n (pc := 11) dX3_goSaid_11 rfl ?_
      refine J_iload_n (pc := 12) dX3_goSaid_12 rfl ?_
      refine J_callV (pc := 13) (n := 1) (b := 72) (vs := [.int p2]) (ci := 2) (fun l => C_m_isFirst l p2 M7) (lw_V q1653 q1655 qs111 q118 q1656) nmv_X3_isFirst rfl (by omega) (by decide) rfl (fun h => sh_k1 h 52 rfl) rfl (Nat.le_of_ble_eq_true rfl) dX3_goSaid_13 (fun v4 M8 => ?_)
      refine J_jn (P := fun J => ∀ (M9 : PM), T_b_m_goSaid G d M9 49 [some (.ref 72), some (.int p1), some (.int p2), none] [] (J M9)) (fun M9 => ?_) (fun j2 hj2 => ?_)
      · refine J_aload_n (pc := 49) dX3_goSaid_49 rfl ?_
        refine J_dup (pc := 50) dX3_goSaid_50 rfl ?_
        refine J_get (pc := 51) (c := 2) (.int (M9.i 72 49)) rfl in_X3 49 (by decide) q1156 rfl (fun h => sh_k1 h 52 rfl) (fun _ _ => rfl) dX3_goSaid_51 ?_
        refine J_iconst (pc := 54) 1 dX3_goSaid_54 (by decide) ?_
        refine J_iadd (pc := 55) dX3_goSaid_55 ?_
        refine J_put (pc := 56) (a := 72) (v := .int ((M9.i 72 49) + 1)) (M' := M9.si 72 49 ((M9.i 72 49) + 1)) (c := 2) rfl in_X3 tyX3_ok fnX3 49 (by decide) q1156 rfl (Or.inl rfl) (fun h => sh_k1 h 52 rfl) (fun _ => rfl) (fun _ => rfl) ⟨⟨rfl, rfl⟩, rfl⟩ (fun _ hb => up2_same hb) (fun _ _ => rfl) (fun _ _ => rfl) (put_i (fun _ _ _ => rfl)) (fun h => Sh_si h) dX3_goSaid_56 ?_
        refine J_ltM (fun M10 => ?_)
        exact J_sub (A := [some (.ref 72), some (.int p1), some (.int p2), none]) ⟨rfl, ⟨rfl, ⟨rfl, trivial⟩⟩⟩ (hj1 M10)
      refine J_if_eq (pc := 16) 49 dX3_goSaid_16 rfl (fun h => if_pos h) (fun h => if_neg h) (fun _ => ?_) (fun _ => ?_)
      · exact J_sub (A := [some (.ref 72), some (.int p1), some (.int p2), none]) ⟨rfl, ⟨rfl, ⟨rfl, trivial⟩⟩⟩ (hj2 M8)
      · refine J_aload_n (pc := 19) dX3_goSaid_19 rfl ?_
        refine J_iload_n (pc := 20) dX3_goSaid_20 rfl ?_
        refine J_put (pc := 21) (a := 72) (v := .int p2) (M' := M8.si 72 48 p2) (c := 2) rfl in_X3 tyX3_ok fnX3 48 (by decide) q1155 rfl (Or.inl rfl) (fun h => sh_k1 h 52 rfl) (fun _ => rfl) (fun _ => rfl) ⟨⟨rfl, rfl⟩, rfl⟩ (fun _ hb => up2_same hb) (fun _ _ => rfl) (fun _ _ => rfl) (put_i (fun _ _ _ => rfl)) (fun h => Sh_si h) dX3_goSaid_21 ?_
        refine J_ltM (fun M11 => ?_)
        refine J_iconst (pc := 24) 0 dX3_goSaid_24 (by decide) ?_
        refine J_istore_n (pc := 25) dX3_goSaid_25 (by decide) ?_
        refine J_sub (A := [some (.ref 72), some (.int p1), some (.int p2), some (.int 0)]) ⟨rfl, ⟨rfl, ⟨rfl, ⟨rfl, trivial⟩⟩⟩⟩ (t_b_m_goSaid_L26 G d p1 p2 _ f_goSaid ?_ h_goSaid FU 0 M11)
        · intro M14
          exact J_sub (A := [some (.ref 72), some (.int p1), some (.int p2), none]) ⟨rfl, ⟨rfl, ⟨rfl, trivial⟩⟩⟩ (hj2 M14)

def G_m_goSaid : Nat → (Int32 → Int32 → PM → Option (Unit × PM))
  | 0 => (fun _ _ _ => none)
  | n + 1 => (b_m_goSaid ((G_m_goSaid n)))
theorem CG_m_goSaid : ∀ d : Nat, (∀ (b0 : Int32) (b1 : Int32) (M : PM) (l : Launch), Ctr l Sh yX3_goSaid cX3_goSaid 4 none (d + 20) rvU [.ref 72, .int b0, .int b1] M ((G_m_goSaid d) b0 b1 M)) := by
  intro d
  induction d with
  | zero => exact fun _ _ _ _ r M1 h => (by cases h)
  | succ d ih =>
    have h0 := ih
    exact fun b0 b1 M l => Ctr.of (by decide +kernel) (Nat.le_of_ble_eq_true rfl) (fun G => t_b_m_goSaid G d _ h0 b0 b1 M)
def m_goSaid (b0 : Int32) (b1 : Int32) (M : PM) : Option (Unit × PM) := (G_m_goSaid 120) b0 b1 M
theorem C_m_goSaid (l : Launch) (b0 : Int32) (b1 : Int32) (M : PM) : Ctr l Sh yX3_goSaid cX3_goSaid 4 none 140 rvU [.ref 72, .int b0, .int b1] M (m_goSaid b0 b1 M) := CG_m_goSaid 120 b0 b1 M l
abbrev T_m_said (G : JG) (M : PM) (pc : Nat) (L : List (Option Value)) (S : List Value) (o : Option (Int32 × PM)) : Prop := JJ G cX3_said yX3_said 2 141 (some .int) Sh (finR G Sh rvI) M pc L S o
def m_said_L13 (k38 : PM → Option (Int32 × PM)) : Nat → Int32 → PM → Option (Int32 × PM)
  | 0, _, _ => none
  | n + 1, v1, M3 =>
    if 5 ≤ v1 then (k38 M3)
    else (bd (m_oneOf 48 10 M3) fun v2 M4 =>
    ck v1 5 <|
    lt (M4.si 97 (ix v1) v2) fun M5 =>
    lt (v1 + 1) fun v3 =>
    m_said_L13 k38 n v3 M5)

set_option maxHeartbeats 4000000 in
theorem t_m_said_L13 (G : JG) (k38 : PM → Option (Int32 × PM)) (hk38 : ∀ Me, T_m_said G  Me 38 [some (.ref 72), none] [] (k38 Me)) : ∀ (n : Nat) (v1 : Int32) (M3 : PM), T_m_said G  M3 13 [some (.ref 72), some (.int v1)] [] (m_said_L13 k38 n v1 M3) := by
  intro n
  induction n with
  | zero =>
    intro v1 M3
    exact J_none
  | succ n ih =>
    intro v1 M3
    rw [m_said_L13]
    refine J_iload_n (pc := 13) dX3_said_13 rfl ?_
    refine J_iconst (pc := 14) 5 dX3_said_14 (by decide) ?_
    refine J_icmp_ge (pc := 15) 38 dX3_said_15 rfl (fun h => if_pos h) (fun h => if_neg h) (fun _ => ?_) (fun _ => ?_)
    · exact J_sub (A := [some (.ref 72), none]) ⟨rfl, trivial⟩ (hk38 M3)
    · refine J_aload_n (pc := 18) dX3_said_18 rfl ?_
      refine J_get (pc := 19) (c := 2) (.ref 97) rfl in_X3 45 (by decide) q1152 rfl (fun h => sh_k1 h 52 rfl) (fun h _ => fv_ref (Or.inr ⟨_, rfl⟩) (sh_r h 73 rfl)) dX3_said_19 ?_
      refine J_iload_n (pc := 22) dX3_said_22 rfl ?_
      refine J_aload_n (pc := 23) dX3_said_23 rfl ?_
      refine J_bipush (pc := 24) 48 dX3_said_24 (by decide) ?_
      refine J_bipush (pc := 26) 10 dX3_said_26 (by decide) ?_
      refine J_callV (pc := 28) (n := 2) (b := 72) (vs := [.int 48, .int 10]) (ci := 2) (fun l => C_m_oneOf l 48 10 M3) (lw_V q1320 q1322 qs65 q118 q1323) nmv_X3_oneOf rfl (by omega) (by decide) rfl (fun h => sh_k1 h 52 rfl) rfl (Nat.le_of_ble_eq_true rfl) dX3_said_28 (fun v2 M4 => ?_)
      refine J_ck (fun h1 => ?_)
      refine J_iast (pc := 31) (a := 97) (fun h => sh_a h 77 rfl h1) (fun h => Sh_si h) dX3_said_31 ?_
      refine J_ltM (fun M5 => ?_)
      refine J_iincL (pc := 32) (n := 1) (by decide) dX3_said_32 rfl (by decide) (fun v3 => ?_)
      refine J_goto (pc := 35) 13 dX3_said_35 rfl ?_
      exact J_sub (A := [some (.ref 72), some (.int v3)]) ⟨rfl, ⟨rfl, trivial⟩⟩ (ih v3 M5)

def m_said_L70 (k102 : PM → Option (Int32 × PM)) : Nat → Int32 → PM → Option (Int32 × PM)
  | 0, _, _ => none
  | n + 1, v5, M11 =>
    jn (fun (M12 : PM) =>
    k102 M12) fun j1 =>
    if (M11.i 72 48) ≤ v5 then (j1 M11)
    else (if (M11.i 72 49) ≤ 0 then (j1 M11)
    else (ck v5 4 <|
    bd (m_tell (Int32.toInt64 (M11.i 99 (ix v5))) M11) fun _ M13 =>
    lt (v5 + 1) fun v6 =>
    m_said_L70 k102 n v6 M13))

set_option maxHeartbeats 4000000 in
theorem t_m_said_L70 (G : JG) (k102 : PM → Option (Int32 × PM)) (hk102 : ∀ Me, T_m_said G  Me 102 [some (.ref 72), none] [] (k102 Me)) : ∀ (n : Nat) (v5 : Int32) (M11 : PM), T_m_said G  M11 70 [some (.ref 72), some (.int v5)] [] (m_said_L70 k102 n v5 M11) := by
  intro n
  induction n with
  | zero =>
    intro v5 M11
    exact J_none
  | succ n ih =>
    intro v5 M11
    rw [m_said_L70]
    refine J_iload_n (pc := 70) dX3_said_70 rfl ?_
    refine J_aload_n (pc := 71) dX3_said_71 rfl ?_
    refine J_get (pc := 72) (c := 2) (.int (M11.i 72 48)) rfl in_X3 48 (by decide) q1155 rfl (fun h => sh_k1 h 52 rfl) (fun _ _ => rfl) dX3_said_72 ?_
    refine J_jn (P := fun J => ∀ (M12 : PM), T_m_said G  M12 102 [some (.ref 72), none] [] (J M12)) (fun M12 => ?_) (fun j1 hj1 => ?_)
    · exact J_sub (A := [some (.ref 72), none]) ⟨rfl, trivial⟩ (hk102 M12)
    refine J_icmp_ge (pc := 75) 102 dX3_said_75 rfl (fun h => if_pos h) (fun h => if_neg h) (fun _ => ?_) (fun _ => ?_)
    · exact J_sub (A := [some (.ref 72), none]) ⟨rfl, trivial⟩ (hj1 M11)
    · refine J_aload_n (pc := 78) dX3_said_78 rfl ?_
      refine J_get (pc := 79) (c := 2) (.int (M11.i 72 49)) rfl in_X3 49 (by decide) q1156 rfl (fun h => sh_k1 h 52 rfl) (fun _ _ => rfl) dX3_said_79 ?_
      refine J_if_le (pc := 82) 102 dX3_said_82 rfl (fun h => if_pos h) (fun h => if_neg h) (fun _ => ?_) (fun _ => ?_)
      · exact J_sub (A := [some (.ref 72), none]) ⟨rfl, trivial⟩ (hj1 M11)
      · refine J_aload_n (pc := 85) dX3_said_85 rfl ?_
        refine J_aload_n (pc := 86) dX3_said_86 rfl ?_
        refine J_get (pc := 87) (c := 2) (.ref 99) rfl in_X3 47 (by decide) q1154 rfl (fun h => sh_k1 h 52 rfl) (fun h _ => fv_ref (Or.inr ⟨_, rfl⟩) (sh_r h 75 rfl)) dX3_said_87 ?_
        refine J_iload_n (pc := 90) dX3_said_90 rfl ?_
        refine J_ck (fun h2 => ?_)
        refine J_iald (pc := 91) (a := 99) (fun h => sh_a h 79 rfl h2) dX3_said_91 ?_
        refine J_i2l (pc := 92) dX3_said_92 ?_
        refine J_callV (pc := 93) (n := 1) (b := 72) (vs := [.long (Int32.toInt64 (M11.i 99 (ix v5)))]) (ci := 2) (fun l => C_m_tell l (Int32.toInt64 (M11.i 99 (ix v5))) M11) (lw_V q1455 q1457 qs87 q118 q1458) nmv_X3_tell rfl (by omega) (by decide) rfl (fun h => sh_k1 h 52 rfl) rfl (Nat.le_of_ble_eq_true rfl) dX3_said_93 (fun _ M13 => ?_)
        refine J_iincL (pc := 96) (n := 1) (by decide) dX3_said_96 rfl (by decide) (fun v6 => ?_)
        refine J_goto (pc := 99) 70 dX3_said_99 rfl ?_
        exact J_sub (A := [some (.ref 72), some (.int v6)]) ⟨rfl, ⟨rfl, trivial⟩⟩ (ih v6 M13)

def m_said (M : PM) : Option (Int32 × PM) :=
    lt (M.si 72 13 0) fun M1 =>
    bd (m_beginText 80 M1) fun _ M2 =>
    m_said_L13 (fun (M6 : PM) =>
    bd (m_wasRight M6) fun v4 M7 =>
    if v4 = 0 then (some (((-1) - (M7.i 72 18)), M7))
    else (lt (M7.si 72 49 0) fun M8 =>
    bd (m_goSaid 0 0 M8) fun _ M9 =>
    lt (M9.si 72 12 0) fun M10 =>
    m_said_L70 (fun (M14 : PM) =>
    some ((M14.i 72 49), M14)) FU 0 M10)) FU 0 M2

set_option maxHeartbeats 4000000 in
theorem t_m_said (G : JG) (M : PM) : T_m_said G  M 0 (ent [.ref 72] 2) [] (m_said M) := by
  unfold m_said
  refine J_aload_n (pc := 0) dX3_said_0 rfl ?_
  refine J_iconst (pc := 1) 0 dX3_said_1 (by decide) ?_
  refine J_put (pc := 2) (a := 72) (v := .int 0) (M' := M.si 72 13 0) (c := 2) rfl in_X3 tyX3_ok fnX3 13 (by decide) q1120 rfl (Or.inl rfl) (fun h => sh_k1 h 52 rfl) (fun _ => rfl) (fun _ => rfl) ⟨⟨rfl, rfl⟩, rfl⟩ (fun _ hb => up2_same hb) (fun _ _ => rfl) (fun _ _ => rfl) (put_i (fun _ _ _ => rfl)) (fun h => Sh_si h) dX3_said_2 ?_
  refine J_ltM (fun M1 => ?_)
  refine J_aload_n (pc := 5) dX3_said_5 rfl ?_
  refine J_bipush (pc := 6) 80 dX3_said_6 (by decide) ?_
  refine J_callV (pc := 8) (n := 1) (b := 72) (vs := [.int 80]) (ci := 2) (fun l => C_m_beginText l 80 M1) (lw_V q1300 q1302 qs60 q118 q1303) nmv_X3_beginText rfl (by omega) (by decide) rfl (fun h => sh_k1 h 52 rfl) rfl (Nat.le_of_ble_eq_true rfl) dX3_said_8 (fun _ M2 => ?_)
  refine J_iconst (pc := 11) 0 dX3_said_11 (by decide) ?_
  refine J_istore_n (pc := 12) dX3_said_12 (by decide) ?_
  refine J_sub (A := [some (.ref 72), some (.int 0)]) ⟨rfl, ⟨rfl, trivial⟩⟩ (t_m_said_L13 G _ ?_ FU 0 M2)
  · intro M6
    refine J_aload_n (pc := 38) dX3_said_38 rfl ?_
    refine J_callV (pc := 39) (n := 0) (b := 72) (vs := []) (ci := 2) (fun l => C_m_wasRight l  M6) (lw_V q1332 q1334 qs68 q118 q1335) nmv_X3_wasRight rfl (by omega) (by decide) rfl (fun h => sh_k1 h 52 rfl) rfl (Nat.le_of_ble_eq_true rfl) dX3_said_39 (fun v4 M7 => ?_)
    refine J_if_ne (pc := 42) 52 dX3_said_42 rfl (fun h => if_neg h) (fun h => if_pos h) (fun _ => ?_) (fun _ => ?_)
    · refine J_aload_n (pc := 52) dX3_said_52 rfl ?_
      refine J_iconst (pc := 53) 0 dX3_said_53 (by decide) ?_
      refine J_put (pc := 54) (a := 72) (v := .int 0) (M' := M7.si 72 49 0) (c := 2) rfl in_X3 tyX3_ok fnX3 49 (by decide) q1156 rfl (Or.inl rfl) (fun h => sh_k1 h 52 rfl) (fun _ => rfl) (fun _ => rfl) ⟨⟨rfl, rfl⟩, rfl⟩ (fun _ hb => up2_same hb) (fun _ _ => rfl) (fun _ _ => rfl) (put_i (fun _ _ _ => rfl)) (fun h => Sh_si h) dX3_said_54 ?_
      refine J_ltM (fun M8 => ?_)
      refine J_aload_n (pc := 57) dX3_said_57 rfl ?_
      refine J_iconst (pc := 58) 0 dX3_said_58 (by decide) ?_
      refine J_iconst (pc := 59) 0 dX3_said_59 (by decide) ?_
      refine J_callV (pc := 60) (n := 2) (b := 72) (vs := [.int 0, .int 0]) (ci := 2) (fun l => C_m_goSaid l 0 0 M8) (lw_V q1645 q1647 qs109 q118 q1648) nmv_X3_goSaid rfl (by omega) (by decide) rfl (fun h => sh_k1 h 52 rfl) rfl (Nat.le_of_ble_eq_true rfl) dX3_said_60 (fun _ M9 => ?_)
      refine J_aload_n (pc := 63) dX3_said_63 rfl ?_
      refine J_iconst (pc := 64) 0 dX3_said_64 (by decide) ?_
      refine J_put (pc := 65) (a := 72) (v := .int 0) (M' := M9.si 72 12 0) (c := 2) rfl in_X3 tyX3_ok fnX3 12 (by decide) q1119 rfl (Or.inl rfl) (fun h => sh_k1 h 52 rfl) (fun _ => rfl) (fun _ => rfl) ⟨⟨rfl, rfl⟩, rfl⟩ (fun _ hb => up2_same hb) (fun _ _ => rfl) (fun _ _ => rfl) (put_i (fun _ _ _ => rfl)) (fun h => Sh_si h) dX3_said_65 ?_
      refine J_ltM (fun M10 => ?_)
      refine J_iconst (pc := 68) 0 dX3_said_68 (by decide) ?_
      refine J_istore_n (pc := 69) dX3_said_69 (by decide) ?_
      refine J_sub (A := [some (.ref 72), some (.int 0)]) ⟨rfl, ⟨rfl, trivial⟩⟩ (t_m_said_L70 G _ ?_ FU 0 M10)
      · intro M14
        refine J_aload_n (pc := 102) dX3_said_102 rfl ?_
        refine J_get (pc := 103) (c := 2) (.int (M14.i 72 49)) rfl in_X3 49 (by decide) q1156 rfl (fun h => sh_k1 h 52 rfl) (fun _ _ => rfl) dX3_said_103 ?_
        exact J_iret (pc := 106) dX3_said_106
    · refine J_iconst (pc := 45) (-1) dX3_said_45 (by decide) ?_
      refine J_aload_n (pc := 46) dX3_said_46 rfl ?_
      refine J_get (pc := 47) (c := 2) (.int (M7.i 72 18)) rfl in_X3 18 (by decide) q1125 rfl (fun h => sh_k1 h 52 rfl) (fun _ _ => rfl) dX3_said_47 ?_
      refine J_isub (pc := 50) dX3_said_50 ?_
      exact J_iret (pc := 51) dX3_said_51

theorem C_m_said (l : Launch) (M : PM) : Ctr l Sh yX3_said cX3_said 2 (some .int) 141 rvI [.ref 72] M (m_said M) := Ctr.of (by decide +kernel) (Nat.le_of_ble_eq_true rfl) (fun G => t_m_said G M)

abbrev T_m_ask (G : JG) (M : PM) (pc : Nat) (L : List (Option Value)) (S : List Value) (o : Option (Int32 × PM)) : Prop := JJ G cX3_ask yX3_ask 8 3 (some .int) Sh (finR G Sh rvI) M pc L S o
def m_ask_L47 (c1 : Int32) (c2 : Int32) (c3 : Int32) (c4 : Int32) (c5 : Int32) (k84 : Int32 → PM → Option (Int32 × PM)) : Nat → Int32 → Int32 → PM → Option (Int32 × PM)
  | 0, _, _, _ => none
  | n + 1, v6, v7, M4 =>
    if (M4.i 72 2) ≤ v7 then (k84 v6 M4)
    else (bd (m_often v7 c3 M4) fun v8 M5 =>
    lt (if v8 = c5 then 1 else 0 : Int32) fun v9 =>
    lt (v6 + v9) fun v10 =>
    lt (v7 + 1) fun v11 =>
    m_ask_L47 c1 c2 c3 c4 c5 k84 n v10 v11 M5)

set_option maxHeartbeats 4000000 in
theorem t_m_ask_L47 (G : JG) (c1 : Int32) (c2 : Int32) (c3 : Int32) (c4 : Int32) (c5 : Int32) (k84 : Int32 → PM → Option (Int32 × PM)) (hk84 : ∀ z6 Me, T_m_ask G  Me 84 [some (.ref 72), some (.int c1), some (.int c2), some (.int c3), some (.int c4), some (.int c5), some (.int z6), none] [] (k84 z6 Me)) : ∀ (n : Nat) (v6 : Int32) (v7 : Int32) (M4 : PM), T_m_ask G  M4 47 [some (.ref 72), some (.int c1), some (.int c2), some (.int c3), some (.int c4), some (.int c5), some (.int v6), some (.int v7)] [] (m_ask_L47 c1 c2 c3 c4 c5 k84 n v6 v7 M4) := by
  intro n
  induction n with
  | zero =>
    intro v6 v7 M4
    exact J_none
  | succ n ih =>
    intro v6 v7 M4
    rw [m_ask_L47]
    refine J_iload (pc := 47) dX3_ask_47 rfl ?_
    refine J_aload_n (pc := 49) dX3_ask_49 rfl ?_
    refine J_get (pc := 50) (c := 2) (.int (M4.i 72 2)) rfl in_X3 2 (by decide) q1109 rfl (fun h => sh_k1 h 52 rfl) (fun _ _ => rfl) dX3_ask_50 ?_
    refine J_icmp_ge (pc := 53) 84 dX3_ask_53 rfl (fun h => if_pos h) (fun h => if_neg h) (fun _ => ?_) (fun _ => ?_)
    · exact J_sub (A := [some (.ref 72), some (.int c1), some (.int c2), some (.int c3), some (.int c4), some (.int c5), some (.int v6), none]) ⟨rfl, ⟨rfl, ⟨rfl, ⟨rfl, ⟨rfl, ⟨rfl, ⟨rfl, trivial⟩⟩⟩⟩⟩⟩⟩ (hk84 v6 M4)
    · refine J_iload (pc := 56) dX3_ask_56 rfl ?_
      refine J_aload_n (pc := 58) dX3_ask_58 rfl ?_
      refine J_iload (pc := 59) dX3_ask_59 rfl ?_
      refine J_iload_n (pc := 61) dX3_ask_61 rfl ?_
      refine J_callV (pc := 62) (n := 2) (b := 72) (vs := [.int v7, .int c3]) (ci := 2) (fun l => C_m_often l v7 c3 M4) (lw_V q1395 q1397 qs79 q118 q1398) nmv_X3_often rfl (by omega) (by decide) rfl (fun h => sh_k1 h 52 rfl) rfl (Nat.le_of_ble_eq_true rfl) dX3_ask_62 (fun v8 M5 => ?_)
      refine J_iload (pc := 65) dX3_ask_65 rfl ?_
      refine J_ltj (β := Int32) (P := fun J => ∀ v9 : Int32, T_m_ask G M5 75 [some (.ref 72), some (.int c1), some (.int c2), some (.int c3), some (.int c4), some (.int c5), none, some (.int v7)] [.int v9, .int v6] (J v9)) (fun v9 => ?_) (fun j1 hj1 => ?_)
      · refine J_iadd (pc := 75) dX3_ask_75 ?_
        refine J_lt (β := Int32) (v := (v6 + v9)) (L := fun _ => _) (S := fun v10 => [.int v10]) (fun v10 => ?_)
        refine J_istore (pc := 76) dX3_ask_76 (by decide) ?_
        refine J_iincL (pc := 78) (n := 1) (by decide) dX3_ask_78 rfl (by decide) (fun v11 => ?_)
        refine J_goto (pc := 81) 47 dX3_ask_81 rfl ?_
        exact J_sub (A := [some (.ref 72), some (.int c1), some (.int c2), some (.int c3), some (.int c4), some (.int c5), some (.int v10), some (.int v11)]) ⟨rfl, ⟨rfl, ⟨rfl, ⟨rfl, ⟨rfl, ⟨rfl, ⟨rfl, ⟨rfl, trivial⟩⟩⟩⟩⟩⟩⟩⟩ (ih v10 v11 M5)
      refine J_icmp_ne (pc := 67) 74 dX3_ask_67 rfl (fun h => congrArg j1 (if_neg h)) (fun h => congrArg j1 (if_pos h)) (fun _ => ?_) (fun _ => ?_)
      · refine J_iconst (pc := 74) 0 dX3_ask_74 (by decide) ?_
        exact J_sub (A := [some (.ref 72), some (.int c1), some (.int c2), some (.int c3), some (.int c4), some (.int c5), none, some (.int v7)]) ⟨rfl, ⟨rfl, ⟨rfl, ⟨rfl, ⟨rfl, ⟨rfl, ⟨rfl, trivial⟩⟩⟩⟩⟩⟩⟩ (hj1 0)
      · refine J_iconst (pc := 70) 1 dX3_ask_70 (by decide) ?_
        refine J_goto (pc := 71) 75 dX3_ask_71 rfl ?_
        exact J_sub (A := [some (.ref 72), some (.int c1), some (.int c2), some (.int c3), some (.int c4), some (.int c5), none, some (.int v7)]) ⟨rfl, ⟨rfl, ⟨rfl, ⟨rfl, ⟨rfl, ⟨rfl, ⟨rfl, trivial⟩⟩⟩⟩⟩⟩⟩ (hj1 1)

def m_ask_L34 (c1 : Int32) (c2 : Int32) (c3 : Int32) (k99 : Int32 → PM → Option (Int32 × PM)) : Nat → Int32 → Int32 → PM → Option (Int32 × PM)
  | 0, _, _, _ => none
  | n + 1, v4, v5, M3 =>
    if 6 < v5 then (k99 v4 M3)
    else (m_ask_L47 c1 c2 c3 v4 v5 (fun (v12 : Int32) (M6 : PM) =>
    lt (imax v4 v12) fun v13 =>
    lt (v5 + 1) fun v14 =>
    m_ask_L34 c1 c2 c3 k99 n v13 v14 M6) FU 0 0 M3)

set_option maxHeartbeats 4000000 in
theorem t_m_ask_L34 (G : JG) (c1 : Int32) (c2 : Int32) (c3 : Int32) (k99 : Int32 → PM → Option (Int32 × PM)) (hk99 : ∀ z4 Me, T_m_ask G  Me 99 [some (.ref 72), some (.int c1), some (.int c2), some (.int c3), some (.int z4), none, none, none] [] (k99 z4 Me)) : ∀ (n : Nat) (v4 : Int32) (v5 : Int32) (M3 : PM), T_m_ask G  M3 34 [some (.ref 72), some (.int c1), some (.int c2), some (.int c3), some (.int v4), some (.int v5), none, none] [] (m_ask_L34 c1 c2 c3 k99 n v4 v5 M3) := by
  intro n
  induction n with
  | zero =>
    intro v4 v5 M3
    exact J_none
  | succ n ih =>
    intro v4 v5 M3
    rw [m_ask_L34]
    refine J_iload (pc := 34) dX3_ask_34 rfl ?_
    refine J_bipush (pc := 36) 6 dX3_ask_36 (by decide) ?_
    refine J_icmp_gt (pc := 38) 99 dX3_ask_38 rfl (fun h => if_pos h) (fun h => if_neg h) (fun _ => ?_) (fun _ => ?_)
    · exact J_sub (A := [some (.ref 72), some (.int c1), some (.int c2), some (.int c3), some (.int v4), none, none, none]) ⟨rfl, ⟨rfl, ⟨rfl, ⟨rfl, ⟨rfl, trivial⟩⟩⟩⟩⟩ (hk99 v4 M3)
    · refine J_iconst (pc := 41) 0 dX3_ask_41 (by decide) ?_
      refine J_istore (pc := 42) dX3_ask_42 (by decide) ?_
      refine J_iconst (pc := 44) 0 dX3_ask_44 (by decide) ?_
      refine J_istore (pc := 45) dX3_ask_45 (by decide) ?_
      refine J_sub (A := [some (.ref 72), some (.int c1), some (.int c2), some (.int c3), some (.int v4), some (.int v5), some (.int 0), some (.int 0)]) ⟨rfl, ⟨rfl, ⟨rfl, ⟨rfl, ⟨rfl, ⟨rfl, ⟨rfl, ⟨rfl, trivial⟩⟩⟩⟩⟩⟩⟩⟩ (t_m_ask_L47 G c1 c2 c3 v4 v5 _ ?_ FU 0 0 M3)
      · intro v12 M6
        refine J_iload (pc := 84) dX3_ask_84 rfl ?_
        refine J_iload (pc := 86) dX3_ask_86 rfl ?_
        refine J_max (pc := 88) (by omega) q1442 q454 q119 q455 (Nat.le_of_ble_eq_true rfl) dX3_ask_88 ?_
        refine J_lt (β := Int32) (v := (imax v4 v12)) (L := fun _ => _) (S := fun v13 => [.int v13]) (fun v13 => ?_)
        refine J_istore (pc := 91) dX3_ask_91 (by decide) ?_
        refine J_iincL (pc := 93) (n := 1) (by decide) dX3_ask_93 rfl (by decide) (fun v14 => ?_)
        refine J_goto (pc := 96) 34 dX3_ask_96 rfl ?_
        exact J_sub (A := [some (.ref 72), some (.int c1), some (.int c2), some (.int c3), some (.int v13), some (.int v14), none, none]) ⟨rfl, ⟨rfl, ⟨rfl, ⟨rfl, ⟨rfl, ⟨rfl, trivial⟩⟩⟩⟩⟩⟩ (ih v13 v14 M6)

def m_ask_L23 (k119 : Int32 → Int32 → PM → Option (Int32 × PM)) : Nat → Int32 → Int32 → Int32 → PM → Option (Int32 × PM)
  | 0, _, _, _, _ => none
  | n + 1, v1, v2, v3, M2 =>
    if 5 ≤ v3 then (k119 v1 v2 M2)
    else (m_ask_L34 v1 v2 v3 (fun (v15 : Int32) (M7 : PM) =>
    jn (fun (v16 : Int32) (v17 : Int32) (M8 : PM) =>
    lt (v3 + 1) fun v18 =>
    m_ask_L23 k119 n v16 v17 v18 M8) fun j2 =>
    if v15 < v2 then (j2 v3 v15 M7)
    else (j2 v1 v2 M7)) FU 0 0 M2)

set_option maxHeartbeats 4000000 in
theorem t_m_ask_L23 (G : JG) (k119 : Int32 → Int32 → PM → Option (Int32 × PM)) (hk119 : ∀ z1 z2 Me, T_m_ask G  Me 119 [some (.ref 72), some (.int z1), some (.int z2), none, none, none, none, none] [] (k119 z1 z2 Me)) : ∀ (n : Nat) (v1 : Int32) (v2 : Int32) (v3 : Int32) (M2 : PM), T_m_ask G  M2 23 [some (.ref 72), some (.int v1), some (.int v2), some (.int v3), none, none, none, none] [] (m_ask_L23 k119 n v1 v2 v3 M2) := by
  intro n
  induction n with
  | zero =>
    intro v1 v2 v3 M2
    exact J_none
  | succ n ih =>
    intro v1 v2 v3 M2
    rw [m_ask_L23]
    refine J_iload_n (pc := 23) dX3_ask_23 rfl ?_
    refine J_iconst (pc := 24) 5 dX3_ask_24 (by decide) ?_
    refine J_icmp_ge (pc := 25) 119 dX3_ask_25 rfl (fun h => if_pos h) (fun h => if_neg h) (fun _ => ?_) (fun _ => ?_)
    · exact J_sub (A := [some (.ref 72), some (.int v1), some (.int v2), none, none, none, none, none]) ⟨rfl, ⟨rfl, ⟨rfl, trivial⟩⟩⟩ (hk119 v1 v2 M2)
    · refine J_iconst (pc := 28) 0 dX3_ask_28 (by decide) ?_
      refine J_istore (pc := 29) dX3_ask_29 (by decide) ?_
      refine J_iconst (pc := 31) 0 dX3_ask_31 (by decide) ?_
      refine J_istore (pc := 32) dX3_ask_32 (by decide) ?_
      refine J_sub (A := [some (.ref 72), some (.int v1), some (.int v2), some (.int v3), some (.int 0), some (.int 0), none, none]) ⟨rfl, ⟨rfl, ⟨rfl, ⟨rfl, ⟨rfl, ⟨rfl, trivial⟩⟩⟩⟩⟩⟩ (t_m_ask_L34 G v1 v2 v3 _ ?_ FU 0 0 M2)
      · intro v15 M7
        refine J_iload (pc := 99) dX3_ask_99 rfl ?_
        refine J_iload_n (pc := 101) dX3_ask_101 rfl ?_
        refine J_jn (P := fun J => ∀ (v16 : Int32) (v17 : Int32) (M8 : PM), T_m_ask G  M8 113 [some (.ref 72), some (.int v16), some (.int v17), some (.int v3), none, none, none, none] [] (J v16 v17 M8)) (fun v16 v17 M8 => ?_) (fun j2 hj2 => ?_)
        · refine J_iincL (pc := 113) (n := 1) (by decide) dX3_ask_113 rfl (by decide) (fun v18 => ?_)
          refine J_goto (pc := 116) 23 dX3_ask_116 rfl ?_
          exact J_sub (A := [some (.ref 72), some (.int v16), some (.int v17), some (.int v18), none, none, none, none]) ⟨rfl, ⟨rfl, ⟨rfl, ⟨rfl, trivial⟩⟩⟩⟩ (ih v16 v17 v18 M8)
        refine J_icmp_lt (pc := 102) 108 dX3_ask_102 rfl (fun h => if_pos h) (fun h => if_neg h) (fun _ => ?_) (fun _ => ?_)
        · refine J_iload_n (pc := 108) dX3_ask_108 rfl ?_
          refine J_istore_n (pc := 109) dX3_ask_109 (by decide) ?_
          refine J_iload (pc := 110) dX3_ask_110 rfl ?_
          refine J_istore_n (pc := 112) dX3_ask_112 (by decide) ?_
          exact J_sub (A := [some (.ref 72), some (.int v3), some (.int v15), some (.int v3), none, none, none, none]) ⟨rfl, ⟨rfl, ⟨rfl, ⟨rfl, trivial⟩⟩⟩⟩ (hj2 v3 v15 M7)
        · refine J_goto (pc := 105) 113 dX3_ask_105 rfl ?_
          exact J_sub (A := [some (.ref 72), some (.int v1), some (.int v2), some (.int v3), none, none, none, none]) ⟨rfl, ⟨rfl, ⟨rfl, ⟨rfl, trivial⟩⟩⟩⟩ (hj2 v1 v2 M7)

def m_ask (M : PM) : Option (Int32 × PM) :=
    lt (M.si 72 13 0) fun M1 =>
    if (M1.i 72 2) = 0 then (some ((-2), M1))
    else (m_ask_L23 (fun (v19 : Int32) (v20 : Int32) (M9 : PM) =>
    lt (M9.si 72 12 0) fun M10 =>
    bd (m_tell (Int32.toInt64 v20) M10) fun _ M11 =>
    some (v19, M11)) FU (-1) 100000000 0 M1)

set_option maxHeartbeats 4000000 in
theorem t_m_ask (G : JG) (M : PM) : T_m_ask G  M 0 (ent [.ref 72] 8) [] (m_ask M) := by
  unfold m_ask
  refine J_aload_n (pc := 0) dX3_ask_0 rfl ?_
  refine J_iconst (pc := 1) 0 dX3_ask_1 (by decide) ?_
  refine J_put (pc := 2) (a := 72) (v := .int 0) (M' := M.si 72 13 0) (c := 2) rfl in_X3 tyX3_ok fnX3 13 (by decide) q1120 rfl (Or.inl rfl) (fun h => sh_k1 h 52 rfl) (fun _ => rfl) (fun _ => rfl) ⟨⟨rfl, rfl⟩, rfl⟩ (fun _ hb => up2_same hb) (fun _ _ => rfl) (fun _ _ => rfl) (put_i (fun _ _ _ => rfl)) (fun h => Sh_si h) dX3_ask_2 ?_
  refine J_ltM (fun M1 => ?_)
  refine J_aload_n (pc := 5) dX3_ask_5 rfl ?_
  refine J_get (pc := 6) (c := 2) (.int (M1.i 72 2)) rfl in_X3 2 (by decide) q1109 rfl (fun h => sh_k1 h 52 rfl) (fun _ _ => rfl) dX3_ask_6 ?_
  refine J_if_ne (pc := 9) 15 dX3_ask_9 rfl (fun h => if_neg h) (fun h => if_pos h) (fun _ => ?_) (fun _ => ?_)
  · refine J_iconst (pc := 15) (-1) dX3_ask_15 (by decide) ?_
    refine J_istore_n (pc := 16) dX3_ask_16 (by decide) ?_
    refine J_ldcw (pc := 17) 100000000 q1536 dX3_ask_17 ?_
    refine J_istore_n (pc := 20) dX3_ask_20 (by decide) ?_
    refine J_iconst (pc := 21) 0 dX3_ask_21 (by decide) ?_
    refine J_istore_n (pc := 22) dX3_ask_22 (by decide) ?_
    refine J_sub (A := [some (.ref 72), some (.int (-1)), some (.int 100000000), some (.int 0), none, none, none, none]) ⟨rfl, ⟨rfl, ⟨rfl, ⟨rfl, trivial⟩⟩⟩⟩ (t_m_ask_L23 G _ ?_ FU (-1) 100000000 0 M1)
    · intro v19 v20 M9
      refine J_aload_n (pc := 119) dX3_ask_119 rfl ?_
      refine J_iconst (pc := 120) 0 dX3_ask_120 (by decide) ?_
      refine J_put (pc := 121) (a := 72) (v := .int 0) (M' := M9.si 72 12 0) (c := 2) rfl in_X3 tyX3_ok fnX3 12 (by decide) q1119 rfl (Or.inl rfl) (fun h => sh_k1 h 52 rfl) (fun _ => rfl) (fun _ => rfl) ⟨⟨rfl, rfl⟩, rfl⟩ (fun _ hb => up2_same hb) (fun _ _ => rfl) (fun _ _ => rfl) (put_i (fun _ _ _ => rfl)) (fun h => Sh_si h) dX3_ask_121 ?_
      refine J_ltM (fun M10 => ?_)
      refine J_aload_n (pc := 124) dX3_ask_124 rfl ?_
      refine J_iload_n (pc := 125) dX3_ask_125 rfl ?_
      refine J_i2l (pc := 126) dX3_ask_126 ?_
      refine J_callV (pc := 127) (n := 1) (b := 72) (vs := [.long (Int32.toInt64 v20)]) (ci := 2) (fun l => C_m_tell l (Int32.toInt64 v20) M10) (lw_V q1455 q1457 qs87 q118 q1458) nmv_X3_tell rfl (by omega) (by decide) rfl (fun h => sh_k1 h 52 rfl) rfl (Nat.le_of_ble_eq_true rfl) dX3_ask_127 (fun _ M11 => ?_)
      refine J_iload_n (pc := 130) dX3_ask_130 rfl ?_
      exact J_iret (pc := 131) dX3_ask_131
  · refine J_bipush (pc := 12) (-2) dX3_ask_12 (by decide) ?_
    exact J_iret (pc := 14) dX3_ask_14

theorem C_m_ask (l : Launch) (M : PM) : Ctr l Sh yX3_ask cX3_ask 8 (some .int) 3 rvI [.ref 72] M (m_ask M) := Ctr.of (by decide +kernel) (Nat.le_of_ble_eq_true rfl) (fun G => t_m_ask G M)

abbrev T_m_draw (G : JG) (M : PM) (pc : Nat) (L : List (Option Value)) (S : List Value) (o : Option (Int32 × PM)) : Prop := JJ G cX3_draw yX3_draw 2 1 (some .int) Sh (finR G Sh rvI) M pc L S o
def m_draw (p1 : Int32) (M : PM) : Option (Int32 × PM) :=
    lt (M.si 72 50 (((M.i 72 50) * 1103515245) + 12345)) fun M1 =>
    ckb (¬ (p1 : Int32) = 0) <|
    some ((((Int32.toUInt32 (M1.i 72 50) >>> (Int32.toUInt32 16 &&& Int32.toUInt32 31)).toInt32) - ((Int32.toUInt32 (M1.i 72 50) >>> (Int32.toUInt32 16 &&& Int32.toUInt32 31)).toInt32) / p1 * p1), M1)

set_option maxHeartbeats 4000000 in
theorem t_m_draw (G : JG) (p1 : Int32) (M : PM) : T_m_draw G  M 0 (ent [.ref 72, .int p1] 2) [] (m_draw p1 M) := by
  unfold m_draw
  refine J_aload_n (pc := 0) dX3_draw_0 rfl ?_
  refine J_aload_n (pc := 1) dX3_draw_1 rfl ?_
  refine J_get (pc := 2) (c := 2) (.int (M.i 72 50)) rfl in_X3 50 (by decide) q1157 rfl (fun h => sh_k1 h 52 rfl) (fun _ _ => rfl) dX3_draw_2 ?_
  refine J_ldcw (pc := 5) 1103515245 q1673 dX3_draw_5 ?_
  refine J_imul (pc := 8) dX3_draw_8 ?_
  refine J_sipush (pc := 9) 12345 dX3_draw_9 (by decide) ?_
  refine J_iadd (pc := 12) dX3_draw_12 ?_
  refine J_put (pc := 13) (a := 72) (v := .int (((M.i 72 50) * 1103515245) + 12345)) (M' := M.si 72 50 (((M.i 72 50) * 1103515245) + 12345)) (c := 2) rfl in_X3 tyX3_ok fnX3 50 (by decide) q1157 rfl (Or.inl rfl) (fun h => sh_k1 h 52 rfl) (fun _ => rfl) (fun _ => rfl) ⟨⟨rfl, rfl⟩, rfl⟩ (fun _ hb => up2_same hb) (fun _ _ => rfl) (fun _ _ => rfl) (put_i (fun _ _ _ => rfl)) (fun h => Sh_si h) dX3_draw_13 ?_
  refine J_ltM (fun M1 => ?_)
  refine J_aload_n (pc := 16) dX3_draw_16 rfl ?_
  refine J_get (pc := 17) (c := 2) (.int (M1.i 72 50)) rfl in_X3 50 (by decide) q1157 rfl (fun h => sh_k1 h 52 rfl) (fun _ _ => rfl) dX3_draw_17 ?_
  refine J_bipush (pc := 20) 16 dX3_draw_20 (by decide) ?_
  refine J_iushr (pc := 22) dX3_draw_22 ?_
  refine J_iload_n (pc := 23) dX3_draw_23 rfl ?_
  refine J_ckb (fun h1 => ?_)
  refine J_irem (pc := 24) dX3_draw_24 h1 ?_
  exact J_iret (pc := 25) dX3_draw_25

theorem C_m_draw (l : Launch) (p1 : Int32) (M : PM) : Ctr l Sh yX3_draw cX3_draw 2 (some .int) 1 rvI [.ref 72, .int p1] M (m_draw p1 M) := Ctr.of (by decide +kernel) (Nat.le_of_ble_eq_true rfl) (fun G => t_m_draw G p1 M)

abbrev T_m_years (G : JG) (M : PM) (pc : Nat) (L : List (Option Value)) (S : List Value) (o : Option (Int32 × PM)) : Prop := JJ G cX3_years yX3_years 11 143 (some .int) Sh (finR G Sh rvI) M pc L S o
def m_years_L59 (c2 : Int32) (k227 : Int32 → Int32 → PM → Option (Int32 × PM)) : Nat → Int32 → Int32 → Int32 → PM → Option (Int32 × PM)
  | 0, _, _, _, _ => none
  | n + 1, v2, v3, v4, M5 =>
    if c2 ≤ v4 then (k227 v2 v3 M5)
    else (bd (m_draw (M5.i 72 6) M5) fun v5 M6 =>
    bd (m_draw 4 M6) fun v6 M7 =>
    ck 12 44 <|
    lt (M7.i 100 (ix 12)) fun v7 =>
    jn (fun (v8 : Int32) (v9 : Int32) (M8 : PM) =>
    lt (if v9 = 0 then 1 else 0 : Int32) fun v10 =>
    lt (v3 + v10) fun v11 =>
    ck 12 44 <|
    lt (M8.si 100 (ix 12) (v7 + 1)) fun M9 =>
    lt (v4 + 1) fun v12 =>
    m_years_L59 c2 k227 n v8 v11 v12 M9) fun j1 =>
    if 2 ≤ v6 then (bd (m_draw (M7.i 72 2) M7) fun v13 M10 =>
    bd (m_refusesSay 100 v5 v13 M10) fun v14 M11 =>
    lt (if v14 = 0 then 1 else 0 : Int32) fun v15 =>
    if v15 = 0 then (j1 v2 v15 M11)
    else (bd (m_goSay 100 v5 v13 M11) fun v16 M12 =>
    lt (v2 + v16) fun v17 =>
    j1 v17 v15 M12))
    else (bd (m_refusesWalk 100 v5 (1 - v6) M7) fun v18 M13 =>
    lt (if v18 = 0 then 1 else 0 : Int32) fun v19 =>
    if v19 = 0 then (j1 v2 v19 M13)
    else (bd (m_goWalk 100 v5 (1 - v6) M13) fun v20 M14 =>
    j1 v2 v19 M14)))

set_option maxHeartbeats 4000000 in
theorem t_m_years_L59 (G : JG) (c2 : Int32) (k227 : Int32 → Int32 → PM → Option (Int32 × PM)) (hk227 : ∀ z3 z4 Me, T_m_years G  Me 227 [some (.ref 72), none, none, some (.int z3), some (.int z4), none, none, none, none, none, none] [] (k227 z3 z4 Me)) : ∀ (n : Nat) (v2 : Int32) (v3 : Int32) (v4 : Int32) (M5 : PM), T_m_years G  M5 59 [some (.ref 72), none, some (.int c2), some (.int v2), some (.int v3), some (.int v4), none, none, none, none, none] [] (m_years_L59 c2 k227 n v2 v3 v4 M5) := by
  intro n
  induction n with
  | zero =>
    intro v2 v3 v4 M5
    exact J_none
  | succ n ih =>
    intro v2 v3 v4 M5
    rw [m_years_L59]
    refine J_iload (pc := 59) dX3_years_59 rfl ?_
    refine J_iload_n (pc := 61) dX3_years_61 rfl ?_
    refine J_icmp_ge (pc := 62) 227 dX3_years_62 rfl (fun h => if_pos h) (fun h => if_neg h) (fun _ => ?_) (fun _ => ?_)
    · exact J_sub (A := [some (.ref 72), none, none, some (.int v2), some (.int v3), none, none, none, none, none, none]) ⟨rfl, ⟨rfl, ⟨rfl, trivial⟩⟩⟩ (hk227 v2 v3 M5)
    · refine J_aload_n (pc := 65) dX3_years_65 rfl ?_
      refine J_aload_n (pc := 66) dX3_years_66 rfl ?_
      refine J_get (pc := 67) (c := 2) (.int (M5.i 72 6)) rfl in_X3 6 (by decide) q1113 rfl (fun h => sh_k1 h 52 rfl) (fun _ _ => rfl) dX3_years_67 ?_
      refine J_callV (pc := 70) (n := 1) (b := 72) (vs := [.int (M5.i 72 6)]) (ci := 2) (fun l => C_m_draw l (M5.i 72 6) M5) (lw_V q1669 q1671 qs113 q118 q1672) nmv_X3_draw rfl (by omega) (by decide) rfl (fun h => sh_k1 h 52 rfl) rfl (Nat.le_of_ble_eq_true rfl) dX3_years_70 (fun v5 M6 => ?_)
      refine J_istore (pc := 73) dX3_years_73 (by decide) ?_
      refine J_aload_n (pc := 75) dX3_years_75 rfl ?_
      refine J_iconst (pc := 76) 4 dX3_years_76 (by decide) ?_
      refine J_callV (pc := 77) (n := 1) (b := 72) (vs := [.int 4]) (ci := 2) (fun l => C_m_draw l 4 M6) (lw_V q1669 q1671 qs113 q118 q1672) nmv_X3_draw rfl (by omega) (by decide) rfl (fun h => sh_k1 h 52 rfl) rfl (Nat.le_of_ble_eq_true rfl) dX3_years_77 (fun v6 M7 => ?_)
      refine J_istore (pc := 80) dX3_years_80 (by decide) ?_
      refine J_aload_n (pc := 82) dX3_years_82 rfl ?_
      refine J_get (pc := 83) (c := 2) (.ref 100) rfl in_X3 51 (by decide) q1158 rfl (fun h => sh_k1 h 52 rfl) (fun h _ => fv_ref (Or.inr ⟨_, rfl⟩) (sh_r h 76 rfl)) dX3_years_83 ?_
      refine J_bipush (pc := 86) 12 dX3_years_86 (by decide) ?_
      refine J_ck (fun h1 => ?_)
      refine J_iald (pc := 88) (a := 100) (fun h => sh_a h 80 rfl h1) dX3_years_88 ?_
      refine J_lt (β := Int32) (v := (M7.i 100 (ix 12))) (L := fun _ => _) (S := fun v7 => [.int v7]) (fun v7 => ?_)
      refine J_istore (pc := 89) dX3_years_89 (by decide) ?_
      refine J_iload (pc := 91) dX3_years_91 rfl ?_
      refine J_iconst (pc := 93) 2 dX3_years_93 (by decide) ?_
      refine J_jn (P := fun J => ∀ (v8 : Int32) (v9 : Int32) (M8 : PM), T_m_years G  M8 195 [some (.ref 72), none, some (.int c2), some (.int v8), some (.int v3), some (.int v4), none, none, some (.int v7), some (.int v9), none] [] (J v8 v9 M8)) (fun v8 v9 M8 => ?_) (fun j1 hj1 => ?_)
      · refine J_iload (pc := 195) dX3_years_195 rfl ?_
        refine J_iload (pc := 197) dX3_years_197 rfl ?_
        refine J_ltj (β := Int32) (P := fun J => ∀ v10 : Int32, T_m_years G M8 207 [some (.ref 72), none, some (.int c2), some (.int v8), none, some (.int v4), none, none, some (.int v7), none, none] [.int v10, .int v3] (J v10)) (fun v10 => ?_) (fun j2 hj2 => ?_)
        · refine J_iadd (pc := 207) dX3_years_207 ?_
          refine J_lt (β := Int32) (v := (v3 + v10)) (L := fun _ => _) (S := fun v11 => [.int v11]) (fun v11 => ?_)
          refine J_istore (pc := 208) dX3_years_208 (by decide) ?_
          refine J_aload_n (pc := 210) dX3_years_210 rfl ?_
          refine J_get (pc := 211) (c := 2) (.ref 100) rfl in_X3 51 (by decide) q1158 rfl (fun h => sh_k1 h 52 rfl) (fun h _ => fv_ref (Or.inr ⟨_, rfl⟩) (sh_r h 76 rfl)) dX3_years_211 ?_
          refine J_bipush (pc := 214) 12 dX3_years_214 (by decide) ?_
          refine J_iload (pc := 216) dX3_years_216 rfl ?_
          refine J_iconst (pc := 218) 1 dX3_years_218 (by decide) ?_
          refine J_iadd (pc := 219) dX3_years_219 ?_
          refine J_ck (fun h2 => ?_)
          refine J_iast (pc := 220) (a := 100) (fun h => sh_a h 80 rfl h2) (fun h => Sh_si h) dX3_years_220 ?_
          refine J_ltM (fun M9 => ?_)
          refine J_iincL (pc := 221) (n := 1) (by decide) dX3_years_221 rfl (by decide) (fun v12 => ?_)
          refine J_goto (pc := 224) 59 dX3_years_224 rfl ?_
          exact J_sub (A := [some (.ref 72), none, some (.int c2), some (.int v8), some (.int v11), some (.int v12), none, none, none, none, none]) ⟨rfl, ⟨rfl, ⟨rfl, ⟨rfl, ⟨rfl, trivial⟩⟩⟩⟩⟩ (ih v8 v11 v12 M9)
        refine J_if_eq (pc := 199) 206 dX3_years_199 rfl (fun h => congrArg j2 (if_pos h)) (fun h => congrArg j2 (if_neg h)) (fun _ => ?_) (fun _ => ?_)
        · refine J_iconst (pc := 206) 1 dX3_years_206 (by decide) ?_
          exact J_sub (A := [some (.ref 72), none, some (.int c2), some (.int v8), none, some (.int v4), none, none, some (.int v7), none, none]) ⟨rfl, ⟨rfl, ⟨rfl, ⟨rfl, ⟨rfl, trivial⟩⟩⟩⟩⟩ (hj2 1)
        · refine J_iconst (pc := 202) 0 dX3_years_202 (by decide) ?_
          refine J_goto (pc := 203) 207 dX3_years_203 rfl ?_
          exact J_sub (A := [some (.ref 72), none, some (.int c2), some (.int v8), none, some (.int v4), none, none, some (.int v7), none, none]) ⟨rfl, ⟨rfl, ⟨rfl, ⟨rfl, ⟨rfl, trivial⟩⟩⟩⟩⟩ (hj2 0)
      refine J_icmp_ge (pc := 94) 143 dX3_years_94 rfl (fun h => if_pos h) (fun h => if_neg h) (fun _ => ?_) (fun _ => ?_)
      · refine J_aload_n (pc := 143) dX3_years_143 rfl ?_
        refine J_aload_n (pc := 144) dX3_years_144 rfl ?_
        refine J_get (pc := 145) (c := 2) (.int (M7.i 72 2)) rfl in_X3 2 (by decide) q1109 rfl (fun h => sh_k1 h 52 rfl) (fun _ _ => rfl) dX3_years_145 ?_
        refine J_callV (pc := 148) (n := 1) (b := 72) (vs := [.int (M7.i 72 2)]) (ci := 2) (fun l => C_m_draw l (M7.i 72 2) M7) (lw_V q1669 q1671 qs113 q118 q1672) nmv_X3_draw rfl (by omega) (by decide) rfl (fun h => sh_k1 h 52 rfl) rfl (Nat.le_of_ble_eq_true rfl) dX3_years_148 (fun v13 M10 => ?_)
        refine J_istore (pc := 151) dX3_years_151 (by decide) ?_
        refine J_aload_n (pc := 153) dX3_years_153 rfl ?_
        refine J_aload_n (pc := 154) dX3_years_154 rfl ?_
        refine J_get (pc := 155) (c := 2) (.ref 100) rfl in_X3 51 (by decide) q1158 rfl (fun h => sh_k1 h 52 rfl) (fun h _ => fv_ref (Or.inr ⟨_, rfl⟩) (sh_r h 76 rfl)) dX3_years_155 ?_
        refine J_iload (pc := 158) dX3_years_158 rfl ?_
        refine J_iload (pc := 160) dX3_years_160 rfl ?_
        refine J_callV (pc := 162) (n := 3) (b := 72) (vs := [.ref 100, .int v5, .int v13]) (ci := 2) (fun l => C_m_refusesSay l 100 v5 v13 M10) (lw_V q1485 q1487 qs90 q118 q1488) nmv_X3_refusesSay rfl (by omega) (by decide) rfl (fun h => sh_k1 h 52 rfl) rfl (Nat.le_of_ble_eq_true rfl) dX3_years_162 (fun v14 M11 => ?_)
        refine J_ltj (β := Int32) (P := fun J => ∀ v15 : Int32, T_m_years G M11 173 [some (.ref 72), none, some (.int c2), some (.int v2), some (.int v3), some (.int v4), some (.int v5), none, some (.int v7), none, some (.int v13)] [.int v15] (J v15)) (fun v15 => ?_) (fun j3 hj3 => ?_)
        · refine J_istore (pc := 173) dX3_years_173 (by decide) ?_
          refine J_iload (pc := 175) dX3_years_175 rfl ?_
          refine J_if_eq (pc := 177) 195 dX3_years_177 rfl (fun h => if_pos h) (fun h => if_neg h) (fun _ => ?_) (fun _ => ?_)
          · exact J_sub (A := [some (.ref 72), none, some (.int c2), some (.int v2), some (.int v3), some (.int v4), none, none, some (.int v7), some (.int v15), none]) ⟨rfl, ⟨rfl, ⟨rfl, ⟨rfl, ⟨rfl, ⟨rfl, ⟨rfl, trivial⟩⟩⟩⟩⟩⟩⟩ (hj1 v2 v15 M11)
          · refine J_iload_n (pc := 180) dX3_years_180 rfl ?_
            refine J_aload_n (pc := 181) dX3_years_181 rfl ?_
            refine J_aload_n (pc := 182) dX3_years_182 rfl ?_
            refine J_get (pc := 183) (c := 2) (.ref 100) rfl in_X3 51 (by decide) q1158 rfl (fun h => sh_k1 h 52 rfl) (fun h _ => fv_ref (Or.inr ⟨_, rfl⟩) (sh_r h 76 rfl)) dX3_years_183 ?_
            refine J_iload (pc := 186) dX3_years_186 rfl ?_
            refine J_iload (pc := 188) dX3_years_188 rfl ?_
            refine J_callV (pc := 190) (n := 3) (b := 72) (vs := [.ref 100, .int v5, .int v13]) (ci := 2) (fun l => C_m_goSay l 100 v5 v13 M11) (lw_V q1489 q1491 qs91 q118 q1492) nmv_X3_goSay rfl (by omega) (by decide) rfl (fun h => sh_k1 h 52 rfl) rfl (Nat.le_of_ble_eq_true rfl) dX3_years_190 (fun v16 M12 => ?_)
            refine J_iadd (pc := 193) dX3_years_193 ?_
            refine J_lt (β := Int32) (v := (v2 + v16)) (L := fun _ => _) (S := fun v17 => [.int v17]) (fun v17 => ?_)
            refine J_istore_n (pc := 194) dX3_years_194 (by decide) ?_
            exact J_sub (A := [some (.ref 72), none, some (.int c2), some (.int v17), some (.int v3), some (.int v4), none, none, some (.int v7), some (.int v15), none]) ⟨rfl, ⟨rfl, ⟨rfl, ⟨rfl, ⟨rfl, ⟨rfl, ⟨rfl, trivial⟩⟩⟩⟩⟩⟩⟩ (hj1 v17 v15 M12)
        refine J_if_ne (pc := 165) 172 dX3_years_165 rfl (fun h => congrArg j3 (if_neg h)) (fun h => congrArg j3 (if_pos h)) (fun _ => ?_) (fun _ => ?_)
        · refine J_iconst (pc := 172) 0 dX3_years_172 (by decide) ?_
          exact J_sub (A := [some (.ref 72), none, some (.int c2), some (.int v2), some (.int v3), some (.int v4), some (.int v5), none, some (.int v7), none, some (.int v13)]) ⟨rfl, ⟨rfl, ⟨rfl, ⟨rfl, ⟨rfl, ⟨rfl, ⟨rfl, ⟨rfl, trivial⟩⟩⟩⟩⟩⟩⟩⟩ (hj3 0)
        · refine J_iconst (pc := 168) 1 dX3_years_168 (by decide) ?_
          refine J_goto (pc := 169) 173 dX3_years_169 rfl ?_
          exact J_sub (A := [some (.ref 72), none, some (.int c2), some (.int v2), some (.int v3), some (.int v4), some (.int v5), none, some (.int v7), none, some (.int v13)]) ⟨rfl, ⟨rfl, ⟨rfl, ⟨rfl, ⟨rfl, ⟨rfl, ⟨rfl, ⟨rfl, trivial⟩⟩⟩⟩⟩⟩⟩⟩ (hj3 1)
      · refine J_aload_n (pc := 97) dX3_years_97 rfl ?_
        refine J_aload_n (pc := 98) dX3_years_98 rfl ?_
        refine J_get (pc := 99) (c := 2) (.ref 100) rfl in_X3 51 (by decide) q1158 rfl (fun h => sh_k1 h 52 rfl) (fun h _ => fv_ref (Or.inr ⟨_, rfl⟩) (sh_r h 76 rfl)) dX3_years_99 ?_
        refine J_iload (pc := 102) dX3_years_102 rfl ?_
        refine J_iconst (pc := 104) 1 dX3_years_104 (by decide) ?_
        refine J_iload (pc := 105) dX3_years_105 rfl ?_
        refine J_isub (pc := 107) dX3_years_107 ?_
        refine J_callV (pc := 108) (n := 3) (b := 72) (vs := [.ref 100, .int v5, .int (1 - v6)]) (ci := 2) (fun l => C_m_refusesWalk l 100 v5 (1 - v6) M7) (lw_V q1463 q1465 qs88 q118 q1466) nmv_X3_refusesWalk rfl (by omega) (by decide) rfl (fun h => sh_k1 h 52 rfl) rfl (Nat.le_of_ble_eq_true rfl) dX3_years_108 (fun v18 M13 => ?_)
        refine J_ltj (β := Int32) (P := fun J => ∀ v19 : Int32, T_m_years G M13 119 [some (.ref 72), none, some (.int c2), some (.int v2), some (.int v3), some (.int v4), some (.int v5), some (.int v6), some (.int v7), none, none] [.int v19] (J v19)) (fun v19 => ?_) (fun j4 hj4 => ?_)
        · refine J_istore (pc := 119) dX3_years_119 (by decide) ?_
          refine J_iload (pc := 121) dX3_years_121 rfl ?_
          refine J_if_eq (pc := 123) 195 dX3_years_123 rfl (fun h => if_pos h) (fun h => if_neg h) (fun _ => ?_) (fun _ => ?_)
          · exact J_sub (A := [some (.ref 72), none, some (.int c2), some (.int v2), some (.int v3), some (.int v4), none, none, some (.int v7), some (.int v19), none]) ⟨rfl, ⟨rfl, ⟨rfl, ⟨rfl, ⟨rfl, ⟨rfl, ⟨rfl, trivial⟩⟩⟩⟩⟩⟩⟩ (hj1 v2 v19 M13)
          · refine J_aload_n (pc := 126) dX3_years_126 rfl ?_
            refine J_get (pc := 127) (c := 2) (.ref 100) rfl in_X3 51 (by decide) q1158 rfl (fun h => sh_k1 h 52 rfl) (fun h _ => fv_ref (Or.inr ⟨_, rfl⟩) (sh_r h 76 rfl)) dX3_years_127 ?_
            refine J_iload (pc := 130) dX3_years_130 rfl ?_
            refine J_iconst (pc := 132) 1 dX3_years_132 (by decide) ?_
            refine J_iload (pc := 133) dX3_years_133 rfl ?_
            refine J_isub (pc := 135) dX3_years_135 ?_
            refine J_callS (pc := 136) (n := 3) (vs := [.ref 100, .int v5, .int (1 - v6)]) (fun l => C_m_goWalk l 100 v5 (1 - v6) M13) (lw_S q1474 q1475 q118 q1476) nmh_X3_goWalk rfl (by omega) (by decide) rfl (Nat.le_of_ble_eq_true rfl) dX3_years_136 (fun v20 M14 => ?_)
            refine J_pop (pc := 139) dX3_years_139 rfl ?_
            refine J_goto (pc := 140) 195 dX3_years_140 rfl ?_
            exact J_sub (A := [some (.ref 72), none, some (.int c2), some (.int v2), some (.int v3), some (.int v4), none, none, some (.int v7), some (.int v19), none]) ⟨rfl, ⟨rfl, ⟨rfl, ⟨rfl, ⟨rfl, ⟨rfl, ⟨rfl, trivial⟩⟩⟩⟩⟩⟩⟩ (hj1 v2 v19 M14)
        refine J_if_ne (pc := 111) 118 dX3_years_111 rfl (fun h => congrArg j4 (if_neg h)) (fun h => congrArg j4 (if_pos h)) (fun _ => ?_) (fun _ => ?_)
        · refine J_iconst (pc := 118) 0 dX3_years_118 (by decide) ?_
          exact J_sub (A := [some (.ref 72), none, some (.int c2), some (.int v2), some (.int v3), some (.int v4), some (.int v5), some (.int v6), some (.int v7), none, none]) ⟨rfl, ⟨rfl, ⟨rfl, ⟨rfl, ⟨rfl, ⟨rfl, ⟨rfl, ⟨rfl, trivial⟩⟩⟩⟩⟩⟩⟩⟩ (hj4 0)
        · refine J_iconst (pc := 114) 1 dX3_years_114 (by decide) ?_
          refine J_goto (pc := 115) 119 dX3_years_115 rfl ?_
          exact J_sub (A := [some (.ref 72), none, some (.int c2), some (.int v2), some (.int v3), some (.int v4), some (.int v5), some (.int v6), some (.int v7), none, none]) ⟨rfl, ⟨rfl, ⟨rfl, ⟨rfl, ⟨rfl, ⟨rfl, ⟨rfl, ⟨rfl, trivial⟩⟩⟩⟩⟩⟩⟩⟩ (hj4 1)

def m_years (p1 : Int32) (p2 : Int32) (M : PM) : Option (Int32 × PM) :=
    lt (M.si 72 13 0) fun M1 =>
    if (M1.i 72 6) = 0 then (some ((-2), M1))
    else (if (M1.i 72 2) = 0 then (some ((-2), M1))
    else (bd (m_in p2 1 60 M1) fun v1 M2 =>
    if v1 = 0 then (some ((-1), M2))
    else (lt (M2.si 72 50 p1) fun M3 =>
    bd (m_lay 73 100 0 M3) fun _ M4 =>
    m_years_L59 p2 (fun (v21 : Int32) (v22 : Int32) (M15 : PM) =>
    lt (M15.si 72 12 0) fun M16 =>
    bd (m_tell (Int32.toInt64 v21) M16) fun _ M17 =>
    bd (m_tell (Int32.toInt64 v22) M17) fun _ M18 =>
    ck 13 44 <|
    bd (jl_bitCount (M18.i 100 (ix 13)) M18) fun v23 M19 =>
    ck 13 44 <|
    bd (jl_bitCount (M19.i 73 (ix 13)) M19) fun v24 M20 =>
    some ((v23 - v24), M20)) FU 0 0 0 M4)))

set_option maxHeartbeats 4000000 in
theorem t_m_years (G : JG) (p1 : Int32) (p2 : Int32) (M : PM) : T_m_years G  M 0 (ent [.ref 72, .int p1, .int p2] 11) [] (m_years p1 p2 M) := by
  unfold m_years
  refine J_aload_n (pc := 0) dX3_years_0 rfl ?_
  refine J_iconst (pc := 1) 0 dX3_years_1 (by decide) ?_
  refine J_put (pc := 2) (a := 72) (v := .int 0) (M' := M.si 72 13 0) (c := 2) rfl in_X3 tyX3_ok fnX3 13 (by decide) q1120 rfl (Or.inl rfl) (fun h => sh_k1 h 52 rfl) (fun _ => rfl) (fun _ => rfl) ⟨⟨rfl, rfl⟩, rfl⟩ (fun _ hb => up2_same hb) (fun _ _ => rfl) (fun _ _ => rfl) (put_i (fun _ _ _ => rfl)) (fun h => Sh_si h) dX3_years_2 ?_
  refine J_ltM (fun M1 => ?_)
  refine J_aload_n (pc := 5) dX3_years_5 rfl ?_
  refine J_get (pc := 6) (c := 2) (.int (M1.i 72 6)) rfl in_X3 6 (by decide) q1113 rfl (fun h => sh_k1 h 52 rfl) (fun _ _ => rfl) dX3_years_6 ?_
  refine J_if_eq (pc := 9) 19 dX3_years_9 rfl (fun h => if_pos h) (fun h => if_neg h) (fun _ => ?_) (fun _ => ?_)
  · refine J_bipush (pc := 19) (-2) dX3_years_19 (by decide) ?_
    exact J_iret (pc := 21) dX3_years_21
  · refine J_aload_n (pc := 12) dX3_years_12 rfl ?_
    refine J_get (pc := 13) (c := 2) (.int (M1.i 72 2)) rfl in_X3 2 (by decide) q1109 rfl (fun h => sh_k1 h 52 rfl) (fun _ _ => rfl) dX3_years_13 ?_
    refine J_if_ne (pc := 16) 22 dX3_years_16 rfl (fun h => if_neg h) (fun h => if_pos h) (fun _ => ?_) (fun _ => ?_)
    · refine J_iload_n (pc := 22) dX3_years_22 rfl ?_
      refine J_iconst (pc := 23) 1 dX3_years_23 (by decide) ?_
      refine J_bipush (pc := 24) 60 dX3_years_24 (by decide) ?_
      refine J_callS (pc := 26) (n := 3) (vs := [.int p2, .int 1, .int 60]) (fun l => C_m_in l p2 1 60 M1) (lw_S q1289 q1290 q118 q1291) nmh_X3_in rfl (by omega) (by decide) rfl (Nat.le_of_ble_eq_true rfl) dX3_years_26 (fun v1 M2 => ?_)
      refine J_if_ne (pc := 29) 34 dX3_years_29 rfl (fun h => if_neg h) (fun h => if_pos h) (fun _ => ?_) (fun _ => ?_)
      · refine J_aload_n (pc := 34) dX3_years_34 rfl ?_
        refine J_iload_n (pc := 35) dX3_years_35 rfl ?_
        refine J_put (pc := 36) (a := 72) (v := .int p1) (M' := M2.si 72 50 p1) (c := 2) rfl in_X3 tyX3_ok fnX3 50 (by decide) q1157 rfl (Or.inl rfl) (fun h => sh_k1 h 52 rfl) (fun _ => rfl) (fun _ => rfl) ⟨⟨rfl, rfl⟩, rfl⟩ (fun _ hb => up2_same hb) (fun _ _ => rfl) (fun _ _ => rfl) (put_i (fun _ _ _ => rfl)) (fun h => Sh_si h) dX3_years_36 ?_
        refine J_ltM (fun M3 => ?_)
        refine J_iconst (pc := 39) 0 dX3_years_39 (by decide) ?_
        refine J_istore_n (pc := 40) dX3_years_40 (by decide) ?_
        refine J_iconst (pc := 41) 0 dX3_years_41 (by decide) ?_
        refine J_istore (pc := 42) dX3_years_42 (by decide) ?_
        refine J_aload_n (pc := 44) dX3_years_44 rfl ?_
        refine J_get (pc := 45) (c := 2) (.ref 73) rfl in_X3 0 (by decide) q1107 rfl (fun h => sh_k1 h 52 rfl) (fun h _ => fv_ref (Or.inr ⟨_, rfl⟩) (sh_r h 51 rfl)) dX3_years_45 ?_
        refine J_aload_n (pc := 48) dX3_years_48 rfl ?_
        refine J_get (pc := 49) (c := 2) (.ref 100) rfl in_X3 51 (by decide) q1158 rfl (fun h => sh_k1 h 52 rfl) (fun h _ => fv_ref (Or.inr ⟨_, rfl⟩) (sh_r h 76 rfl)) dX3_years_49 ?_
        refine J_iconst (pc := 52) 0 dX3_years_52 (by decide) ?_
        refine J_callS (pc := 53) (n := 3) (vs := [.ref 73, .ref 100, .int 0]) (fun l => C_m_lay l 73 100 0 M3) (lw_S q1471 q1472 q118 q1473) nmh_X3_lay rfl (by omega) (by decide) rfl (Nat.le_of_ble_eq_true rfl) dX3_years_53 (fun _ M4 => ?_)
        refine J_iconst (pc := 56) 0 dX3_years_56 (by decide) ?_
        refine J_istore (pc := 57) dX3_years_57 (by decide) ?_
        refine J_sub (A := [some (.ref 72), none, some (.int p2), some (.int 0), some (.int 0), some (.int 0), none, none, none, none, none]) ⟨rfl, ⟨rfl, ⟨rfl, ⟨rfl, ⟨rfl, trivial⟩⟩⟩⟩⟩ (t_m_years_L59 G p2 _ ?_ FU 0 0 0 M4)
        · intro v21 v22 M15
          refine J_aload_n (pc := 227) dX3_years_227 rfl ?_
          refine J_iconst (pc := 228) 0 dX3_years_228 (by decide) ?_
          refine J_put (pc := 229) (a := 72) (v := .int 0) (M' := M15.si 72 12 0) (c := 2) rfl in_X3 tyX3_ok fnX3 12 (by decide) q1119 rfl (Or.inl rfl) (fun h => sh_k1 h 52 rfl) (fun _ => rfl) (fun _ => rfl) ⟨⟨rfl, rfl⟩, rfl⟩ (fun _ hb => up2_same hb) (fun _ _ => rfl) (fun _ _ => rfl) (put_i (fun _ _ _ => rfl)) (fun h => Sh_si h) dX3_years_229 ?_
          refine J_ltM (fun M16 => ?_)
          refine J_aload_n (pc := 232) dX3_years_232 rfl ?_
          refine J_iload_n (pc := 233) dX3_years_233 rfl ?_
          refine J_i2l (pc := 234) dX3_years_234 ?_
          refine J_callV (pc := 235) (n := 1) (b := 72) (vs := [.long (Int32.toInt64 v21)]) (ci := 2) (fun l => C_m_tell l (Int32.toInt64 v21) M16) (lw_V q1455 q1457 qs87 q118 q1458) nmv_X3_tell rfl (by omega) (by decide) rfl (fun h => sh_k1 h 52 rfl) rfl (Nat.le_of_ble_eq_true rfl) dX3_years_235 (fun _ M17 => ?_)
          refine J_aload_n (pc := 238) dX3_years_238 rfl ?_
          refine J_iload (pc := 239) dX3_years_239 rfl ?_
          refine J_i2l (pc := 241) dX3_years_241 ?_
          refine J_callV (pc := 242) (n := 1) (b := 72) (vs := [.long (Int32.toInt64 v22)]) (ci := 2) (fun l => C_m_tell l (Int32.toInt64 v22) M17) (lw_V q1455 q1457 qs87 q118 q1458) nmv_X3_tell rfl (by omega) (by decide) rfl (fun h => sh_k1 h 52 rfl) rfl (Nat.le_of_ble_eq_true rfl) dX3_years_242 (fun _ M18 => ?_)
          refine J_aload_n (pc := 245) dX3_years_245 rfl ?_
          refine J_get (pc := 246) (c := 2) (.ref 100) rfl in_X3 51 (by decide) q1158 rfl (fun h => sh_k1 h 52 rfl) (fun h _ => fv_ref (Or.inr ⟨_, rfl⟩) (sh_r h 76 rfl)) dX3_years_246 ?_
          refine J_bipush (pc := 249) 13 dX3_years_249 (by decide) ?_
          refine J_ck (fun h3 => ?_)
          refine J_iald (pc := 251) (a := 100) (fun h => sh_a h 80 rfl h3) dX3_years_251 ?_
          refine J_callS (pc := 252) (n := 1) (vs := [.int (M18.i 100 (ix 13))]) (fun l => C_jl_bitCount l (M18.i 100 (ix 13)) M18) (lw_S q1588 q867 q135 q868) nmh_J10_bitCount rfl (by omega) (by decide) rfl (Nat.le_of_ble_eq_true rfl) dX3_years_252 (fun v23 M19 => ?_)
          refine J_aload_n (pc := 255) dX3_years_255 rfl ?_
          refine J_get (pc := 256) (c := 2) (.ref 73) rfl in_X3 0 (by decide) q1107 rfl (fun h => sh_k1 h 52 rfl) (fun h _ => fv_ref (Or.inr ⟨_, rfl⟩) (sh_r h 51 rfl)) dX3_years_256 ?_
          refine J_bipush (pc := 259) 13 dX3_years_259 (by decide) ?_
          refine J_ck (fun h4 => ?_)
          refine J_iald (pc := 261) (a := 73) (fun h => sh_a h 53 rfl h4) dX3_years_261 ?_
          refine J_callS (pc := 262) (n := 1) (vs := [.int (M19.i 73 (ix 13))]) (fun l => C_jl_bitCount l (M19.i 73 (ix 13)) M19) (lw_S q1588 q867 q135 q868) nmh_J10_bitCount rfl (by omega) (by decide) rfl (Nat.le_of_ble_eq_true rfl) dX3_years_262 (fun v24 M20 => ?_)
          refine J_isub (pc := 265) dX3_years_265 ?_
          exact J_iret (pc := 266) dX3_years_266
      · refine J_iconst (pc := 32) (-1) dX3_years_32 (by decide) ?_
        exact J_iret (pc := 33) dX3_years_33
    · refine J_bipush (pc := 19) (-2) dX3_years_19 (by decide) ?_
      exact J_iret (pc := 21) dX3_years_21

theorem C_m_years (l : Launch) (p1 : Int32) (p2 : Int32) (M : PM) : Ctr l Sh yX3_years cX3_years 11 (some .int) 143 rvI [.ref 72, .int p1, .int p2] M (m_years p1 p2 M) := Ctr.of (by decide +kernel) (Nat.le_of_ble_eq_true rfl) (fun G => t_m_years G p1 p2 M)

abbrev T_m_keep (G : JG) (M : PM) (pc : Nat) (L : List (Option Value)) (S : List Value) (o : Option (Int32 × PM)) : Prop := JJ G cX3_keep yX3_keep 2 2 (some .boolean) Sh (finR G Sh rvI) M pc L S o
def m_keep (p1 : Int32) (M : PM) : Option (Int32 × PM) :=
    lt (M.si 72 13 0) fun M1 =>
    bd (m_in p1 0 1 M1) fun v1 M2 =>
    if v1 = 0 then (some (0, M2))
    else (ck p1 2 <|
    lt (M2.si 102 (ix p1) 1) fun M3 =>
    ck p1 2 <|
    lt (M3.si 103 (ix p1) (M3.i 72 52)) fun M4 =>
    bd (m_lay 73 101 (44 * p1) M4) fun _ M5 =>
    some (1, M5))

set_option maxHeartbeats 4000000 in
theorem t_m_keep (G : JG) (p1 : Int32) (M : PM) : T_m_keep G  M 0 (ent [.ref 72, .int p1] 2) [] (m_keep p1 M) := by
  unfold m_keep
  refine J_aload_n (pc := 0) dX3_keep_0 rfl ?_
  refine J_iconst (pc := 1) 0 dX3_keep_1 (by decide) ?_
  refine J_put (pc := 2) (a := 72) (v := .int 0) (M' := M.si 72 13 0) (c := 2) rfl in_X3 tyX3_ok fnX3 13 (by decide) q1120 rfl (Or.inl rfl) (fun h => sh_k1 h 52 rfl) (fun _ => rfl) (fun _ => rfl) ⟨⟨rfl, rfl⟩, rfl⟩ (fun _ hb => up2_same hb) (fun _ _ => rfl) (fun _ _ => rfl) (put_i (fun _ _ _ => rfl)) (fun h => Sh_si h) dX3_keep_2 ?_
  refine J_ltM (fun M1 => ?_)
  refine J_iload_n (pc := 5) dX3_keep_5 rfl ?_
  refine J_iconst (pc := 6) 0 dX3_keep_6 (by decide) ?_
  refine J_iconst (pc := 7) 1 dX3_keep_7 (by decide) ?_
  refine J_callS (pc := 8) (n := 3) (vs := [.int p1, .int 0, .int 1]) (fun l => C_m_in l p1 0 1 M1) (lw_S q1289 q1290 q118 q1291) nmh_X3_in rfl (by omega) (by decide) rfl (Nat.le_of_ble_eq_true rfl) dX3_keep_8 (fun v1 M2 => ?_)
  refine J_if_ne (pc := 11) 16 dX3_keep_11 rfl (fun h => if_neg h) (fun h => if_pos h) (fun _ => ?_) (fun _ => ?_)
  · refine J_aload_n (pc := 16) dX3_keep_16 rfl ?_
    refine J_get (pc := 17) (c := 2) (.ref 102) rfl in_X3 54 (by decide) q1161 rfl (fun h => sh_k1 h 52 rfl) (fun h _ => fv_ref (Or.inr ⟨_, rfl⟩) (sh_r h 78 rfl)) dX3_keep_17 ?_
    refine J_iload_n (pc := 20) dX3_keep_20 rfl ?_
    refine J_iconst (pc := 21) 1 dX3_keep_21 (by decide) ?_
    refine J_ck (fun h1 => ?_)
    refine J_zast (pc := 22) (a := 102) rfl (fun h => sh_a h 82 rfl h1) (fun h => Sh_si h) dX3_keep_22 ?_
    refine J_ltM (fun M3 => ?_)
    refine J_aload_n (pc := 23) dX3_keep_23 rfl ?_
    refine J_get (pc := 24) (c := 2) (.ref 103) rfl in_X3 55 (by decide) q1162 rfl (fun h => sh_k1 h 52 rfl) (fun h _ => fv_ref (Or.inr ⟨_, rfl⟩) (sh_r h 79 rfl)) dX3_keep_24 ?_
    refine J_iload_n (pc := 27) dX3_keep_27 rfl ?_
    refine J_aload_n (pc := 28) dX3_keep_28 rfl ?_
    refine J_get (pc := 29) (c := 2) (.int (M3.i 72 52)) rfl in_X3 52 (by decide) q1159 rfl (fun h => sh_k1 h 52 rfl) (fun _ _ => rfl) dX3_keep_29 ?_
    refine J_ck (fun h2 => ?_)
    refine J_iast (pc := 32) (a := 103) (fun h => sh_a h 83 rfl h2) (fun h => Sh_si h) dX3_keep_32 ?_
    refine J_ltM (fun M4 => ?_)
    refine J_aload_n (pc := 33) dX3_keep_33 rfl ?_
    refine J_get (pc := 34) (c := 2) (.ref 73) rfl in_X3 0 (by decide) q1107 rfl (fun h => sh_k1 h 52 rfl) (fun h _ => fv_ref (Or.inr ⟨_, rfl⟩) (sh_r h 51 rfl)) dX3_keep_34 ?_
    refine J_aload_n (pc := 37) dX3_keep_37 rfl ?_
    refine J_get (pc := 38) (c := 2) (.ref 101) rfl in_X3 53 (by decide) q1160 rfl (fun h => sh_k1 h 52 rfl) (fun h _ => fv_ref (Or.inr ⟨_, rfl⟩) (sh_r h 77 rfl)) dX3_keep_38 ?_
    refine J_bipush (pc := 41) 44 dX3_keep_41 (by decide) ?_
    refine J_iload_n (pc := 43) dX3_keep_43 rfl ?_
    refine J_imul (pc := 44) dX3_keep_44 ?_
    refine J_callS (pc := 45) (n := 3) (vs := [.ref 73, .ref 101, .int (44 * p1)]) (fun l => C_m_lay l 73 101 (44 * p1) M4) (lw_S q1471 q1472 q118 q1473) nmh_X3_lay rfl (by omega) (by decide) rfl (Nat.le_of_ble_eq_true rfl) dX3_keep_45 (fun _ M5 => ?_)
    refine J_iconst (pc := 48) 1 dX3_keep_48 (by decide) ?_
    exact J_zret (pc := 49) rfl dX3_keep_49
  · refine J_iconst (pc := 14) 0 dX3_keep_14 (by decide) ?_
    exact J_zret (pc := 15) rfl dX3_keep_15

theorem C_m_keep (l : Launch) (p1 : Int32) (M : PM) : Ctr l Sh yX3_keep cX3_keep 2 (some .boolean) 2 rvI [.ref 72, .int p1] M (m_keep p1 M) := Ctr.of (by decide +kernel) (Nat.le_of_ble_eq_true rfl) (fun G => t_m_keep G p1 M)

abbrev T_m_again (G : JG) (M : PM) (pc : Nat) (L : List (Option Value)) (S : List Value) (o : Option (Int32 × PM)) : Prop := JJ G cX3_again yX3_again 3 2 (some .boolean) Sh (finR G Sh rvI) M pc L S o
def m_again_L40 (c1 : Int32) (k69 : PM → Option (Int32 × PM)) : Nat → Int32 → PM → Option (Int32 × PM)
  | 0, _, _ => none
  | n + 1, v2, M3 =>
    if 44 ≤ v2 then (k69 M3)
    else (ck ((44 * c1) + v2) 88 <|
    ck v2 44 <|
    lt (M3.si 73 (ix v2) (M3.i 101 (ix ((44 * c1) + v2)))) fun M4 =>
    lt (v2 + 1) fun v3 =>
    m_again_L40 c1 k69 n v3 M4)

set_option maxHeartbeats 4000000 in
theorem t_m_again_L40 (G : JG) (c1 : Int32) (k69 : PM → Option (Int32 × PM)) (hk69 : ∀ Me, T_m_again G  Me 69 [some (.ref 72), none, none] [] (k69 Me)) : ∀ (n : Nat) (v2 : Int32) (M3 : PM), T_m_again G  M3 40 [some (.ref 72), some (.int c1), some (.int v2)] [] (m_again_L40 c1 k69 n v2 M3) := by
  intro n
  induction n with
  | zero =>
    intro v2 M3
    exact J_none
  | succ n ih =>
    intro v2 M3
    rw [m_again_L40]
    refine J_iload_n (pc := 40) dX3_again_40 rfl ?_
    refine J_bipush (pc := 41) 44 dX3_again_41 (by decide) ?_
    refine J_icmp_ge (pc := 43) 69 dX3_again_43 rfl (fun h => if_pos h) (fun h => if_neg h) (fun _ => ?_) (fun _ => ?_)
    · exact J_sub (A := [some (.ref 72), none, none]) ⟨rfl, trivial⟩ (hk69 M3)
    · refine J_aload_n (pc := 46) dX3_again_46 rfl ?_
      refine J_get (pc := 47) (c := 2) (.ref 73) rfl in_X3 0 (by decide) q1107 rfl (fun h => sh_k1 h 52 rfl) (fun h _ => fv_ref (Or.inr ⟨_, rfl⟩) (sh_r h 51 rfl)) dX3_again_47 ?_
      refine J_iload_n (pc := 50) dX3_again_50 rfl ?_
      refine J_aload_n (pc := 51) dX3_again_51 rfl ?_
      refine J_get (pc := 52) (c := 2) (.ref 101) rfl in_X3 53 (by decide) q1160 rfl (fun h => sh_k1 h 52 rfl) (fun h _ => fv_ref (Or.inr ⟨_, rfl⟩) (sh_r h 77 rfl)) dX3_again_52 ?_
      refine J_bipush (pc := 55) 44 dX3_again_55 (by decide) ?_
      refine J_iload_n (pc := 57) dX3_again_57 rfl ?_
      refine J_imul (pc := 58) dX3_again_58 ?_
      refine J_iload_n (pc := 59) dX3_again_59 rfl ?_
      refine J_iadd (pc := 60) dX3_again_60 ?_
      refine J_ck (fun h3 => ?_)
      refine J_iald (pc := 61) (a := 101) (fun h => sh_a h 81 rfl h3) dX3_again_61 ?_
      refine J_ck (fun h4 => ?_)
      refine J_iast (pc := 62) (a := 73) (fun h => sh_a h 53 rfl h4) (fun h => Sh_si h) dX3_again_62 ?_
      refine J_ltM (fun M4 => ?_)
      refine J_iincL (pc := 63) (n := 1) (by decide) dX3_again_63 rfl (by decide) (fun v3 => ?_)
      refine J_goto (pc := 66) 40 dX3_again_66 rfl ?_
      exact J_sub (A := [some (.ref 72), some (.int c1), some (.int v3)]) ⟨rfl, ⟨rfl, ⟨rfl, trivial⟩⟩⟩ (ih v3 M4)

def m_again (p1 : Int32) (M : PM) : Option (Int32 × PM) :=
    lt (M.si 72 13 0) fun M1 =>
    bd (m_in p1 0 1 M1) fun v1 M2 =>
    if v1 = 0 then (some (0, M2))
    else (ck p1 2 <|
    if (M2.i 102 (ix p1)) = 0 then (some (0, M2))
    else (ck p1 2 <|
    if (M2.i 103 (ix p1)) = (M2.i 72 52) then (m_again_L40 p1 (fun (M5 : PM) =>
    lt (M5.si 72 29 0) fun M6 =>
    some (1, M6)) FU 0 M2)
    else (some (0, M2))))

set_option maxHeartbeats 4000000 in
theorem t_m_again (G : JG) (p1 : Int32) (M : PM) : T_m_again G  M 0 (ent [.ref 72, .int p1] 3) [] (m_again p1 M) := by
  unfold m_again
  refine J_aload_n (pc := 0) dX3_again_0 rfl ?_
  refine J_iconst (pc := 1) 0 dX3_again_1 (by decide) ?_
  refine J_put (pc := 2) (a := 72) (v := .int 0) (M' := M.si 72 13 0) (c := 2) rfl in_X3 tyX3_ok fnX3 13 (by decide) q1120 rfl (Or.inl rfl) (fun h => sh_k1 h 52 rfl) (fun _ => rfl) (fun _ => rfl) ⟨⟨rfl, rfl⟩, rfl⟩ (fun _ hb => up2_same hb) (fun _ _ => rfl) (fun _ _ => rfl) (put_i (fun _ _ _ => rfl)) (fun h => Sh_si h) dX3_again_2 ?_
  refine J_ltM (fun M1 => ?_)
  refine J_iload_n (pc := 5) dX3_again_5 rfl ?_
  refine J_iconst (pc := 6) 0 dX3_again_6 (by decide) ?_
  refine J_iconst (pc := 7) 1 dX3_again_7 (by decide) ?_
  refine J_callS (pc := 8) (n := 3) (vs := [.int p1, .int 0, .int 1]) (fun l => C_m_in l p1 0 1 M1) (lw_S q1289 q1290 q118 q1291) nmh_X3_in rfl (by omega) (by decide) rfl (Nat.le_of_ble_eq_true rfl) dX3_again_8 (fun v1 M2 => ?_)
  refine J_if_eq (pc := 11) 36 dX3_again_11 rfl (fun h => if_pos h) (fun h => if_neg h) (fun _ => ?_) (fun _ => ?_)
  · refine J_iconst (pc := 36) 0 dX3_again_36 (by decide) ?_
    exact J_zret (pc := 37) rfl dX3_again_37
  · refine J_aload_n (pc := 14) dX3_again_14 rfl ?_
    refine J_get (pc := 15) (c := 2) (.ref 102) rfl in_X3 54 (by decide) q1161 rfl (fun h => sh_k1 h 52 rfl) (fun h _ => fv_ref (Or.inr ⟨_, rfl⟩) (sh_r h 78 rfl)) dX3_again_15 ?_
    refine J_iload_n (pc := 18) dX3_again_18 rfl ?_
    refine J_ck (fun h1 => ?_)
    refine J_zald (pc := 19) (a := 102) (fun h => sh_a h 82 rfl h1) dX3_again_19 ?_
    refine J_if_eq (pc := 20) 36 dX3_again_20 rfl (fun h => if_pos h) (fun h => if_neg h) (fun _ => ?_) (fun _ => ?_)
    · refine J_iconst (pc := 36) 0 dX3_again_36 (by decide) ?_
      exact J_zret (pc := 37) rfl dX3_again_37
    · refine J_aload_n (pc := 23) dX3_again_23 rfl ?_
      refine J_get (pc := 24) (c := 2) (.ref 103) rfl in_X3 55 (by decide) q1162 rfl (fun h => sh_k1 h 52 rfl) (fun h _ => fv_ref (Or.inr ⟨_, rfl⟩) (sh_r h 79 rfl)) dX3_again_24 ?_
      refine J_iload_n (pc := 27) dX3_again_27 rfl ?_
      refine J_ck (fun h2 => ?_)
      refine J_iald (pc := 28) (a := 103) (fun h => sh_a h 83 rfl h2) dX3_again_28 ?_
      refine J_aload_n (pc := 29) dX3_again_29 rfl ?_
      refine J_get (pc := 30) (c := 2) (.int (M2.i 72 52)) rfl in_X3 52 (by decide) q1159 rfl (fun h => sh_k1 h 52 rfl) (fun _ _ => rfl) dX3_again_30 ?_
      refine J_icmp_eq (pc := 33) 38 dX3_again_33 rfl (fun h => if_pos h) (fun h => if_neg h) (fun _ => ?_) (fun _ => ?_)
      · refine J_iconst (pc := 38) 0 dX3_again_38 (by decide) ?_
        refine J_istore_n (pc := 39) dX3_again_39 (by decide) ?_
        refine J_sub (A := [some (.ref 72), some (.int p1), some (.int 0)]) ⟨rfl, ⟨rfl, ⟨rfl, trivial⟩⟩⟩ (t_m_again_L40 G p1 _ ?_ FU 0 M2)
        · intro M5
          refine J_aload_n (pc := 69) dX3_again_69 rfl ?_
          refine J_iconst (pc := 70) 0 dX3_again_70 (by decide) ?_
          refine J_put (pc := 71) (a := 72) (v := .int 0) (M' := M5.si 72 29 0) (c := 2) rfl in_X3 tyX3_ok fnX3 29 (by decide) q1136 rfl (Or.inl rfl) (fun h => sh_k1 h 52 rfl) (fun _ => rfl) (fun _ => rfl) ⟨⟨rfl, rfl⟩, rfl⟩ (fun _ hb => up2_same hb) (fun _ _ => rfl) (fun _ _ => rfl) (put_i (fun _ _ _ => rfl)) (fun h => Sh_si h) dX3_again_71 ?_
          refine J_ltM (fun M6 => ?_)
          refine J_iconst (pc := 74) 1 dX3_again_74 (by decide) ?_
          exact J_zret (pc := 75) rfl dX3_again_75
      · refine J_iconst (pc := 36) 0 dX3_again_36 (by decide) ?_
        exact J_zret (pc := 37) rfl dX3_again_37

theorem C_m_again (l : Launch) (p1 : Int32) (M : PM) : Ctr l Sh yX3_again cX3_again 3 (some .boolean) 2 rvI [.ref 72, .int p1] M (m_again p1 M) := Ctr.of (by decide +kernel) (Nat.le_of_ble_eq_true rfl) (fun G => t_m_again G p1 M)

abbrev T_m_sumOf (G : JG) (M : PM) (pc : Nat) (L : List (Option Value)) (S : List Value) (o : Option (Int32 × PM)) : Prop := JJ G cX3_sumOf yX3_sumOf 5 1 (some .int) Sh (finR G Sh rvI) M pc L S o
def m_sumOf_L5 (c1 : Int32) (c2 : Int32) : Nat → Int32 → Int32 → PM → Option (Int32 × PM)
  | 0, _, _, _ => none
  | n + 1, v1, v2, M1 =>
    if c2 ≤ v2 then (some (v1, M1))
    else (ck (c1 + v2) 44 <|
    lt (v1 + (M1.i 73 (ix (c1 + v2)))) fun v3 =>
    lt (v2 + 1) fun v4 =>
    m_sumOf_L5 c1 c2 n v3 v4 M1)

set_option maxHeartbeats 4000000 in
theorem t_m_sumOf_L5 (G : JG) (c1 : Int32) (c2 : Int32) : ∀ (n : Nat) (v1 : Int32) (v2 : Int32) (M1 : PM), T_m_sumOf G  M1 5 [some (.ref 72), some (.int c1), some (.int c2), some (.int v1), some (.int v2)] [] (m_sumOf_L5 c1 c2 n v1 v2 M1) := by
  intro n
  induction n with
  | zero =>
    intro v1 v2 M1
    exact J_none
  | succ n ih =>
    intro v1 v2 M1
    rw [m_sumOf_L5]
    refine J_iload (pc := 5) dX3_sumOf_5 rfl ?_
    refine J_iload_n (pc := 7) dX3_sumOf_7 rfl ?_
    refine J_icmp_ge (pc := 8) 29 dX3_sumOf_8 rfl (fun h => if_pos h) (fun h => if_neg h) (fun _ => ?_) (fun _ => ?_)
    · refine J_iload_n (pc := 29) dX3_sumOf_29 rfl ?_
      exact J_iret (pc := 30) dX3_sumOf_30
    · refine J_iload_n (pc := 11) dX3_sumOf_11 rfl ?_
      refine J_aload_n (pc := 12) dX3_sumOf_12 rfl ?_
      refine J_get (pc := 13) (c := 2) (.ref 73) rfl in_X3 0 (by decide) q1107 rfl (fun h => sh_k1 h 52 rfl) (fun h _ => fv_ref (Or.inr ⟨_, rfl⟩) (sh_r h 51 rfl)) dX3_sumOf_13 ?_
      refine J_iload_n (pc := 16) dX3_sumOf_16 rfl ?_
      refine J_iload (pc := 17) dX3_sumOf_17 rfl ?_
      refine J_iadd (pc := 19) dX3_sumOf_19 ?_
      refine J_ck (fun h1 => ?_)
      refine J_iald (pc := 20) (a := 73) (fun h => sh_a h 53 rfl h1) dX3_sumOf_20 ?_
      refine J_iadd (pc := 21) dX3_sumOf_21 ?_
      refine J_lt (β := Int32) (v := (v1 + (M1.i 73 (ix (c1 + v2))))) (L := fun _ => _) (S := fun v3 => [.int v3]) (fun v3 => ?_)
      refine J_istore_n (pc := 22) dX3_sumOf_22 (by decide) ?_
      refine J_iincL (pc := 23) (n := 1) (by decide) dX3_sumOf_23 rfl (by decide) (fun v4 => ?_)
      refine J_goto (pc := 26) 5 dX3_sumOf_26 rfl ?_
      exact J_sub (A := [some (.ref 72), some (.int c1), some (.int c2), some (.int v3), some (.int v4)]) ⟨rfl, ⟨rfl, ⟨rfl, ⟨rfl, ⟨rfl, trivial⟩⟩⟩⟩⟩ (ih v3 v4 M1)

def m_sumOf (p1 : Int32) (p2 : Int32) (M : PM) : Option (Int32 × PM) :=
    m_sumOf_L5 p1 p2 FU 0 0 M

set_option maxHeartbeats 4000000 in
theorem t_m_sumOf (G : JG) (p1 : Int32) (p2 : Int32) (M : PM) : T_m_sumOf G  M 0 (ent [.ref 72, .int p1, .int p2] 5) [] (m_sumOf p1 p2 M) := by
  unfold m_sumOf
  refine J_iconst (pc := 0) 0 dX3_sumOf_0 (by decide) ?_
  refine J_istore_n (pc := 1) dX3_sumOf_1 (by decide) ?_
  refine J_iconst (pc := 2) 0 dX3_sumOf_2 (by decide) ?_
  refine J_istore (pc := 3) dX3_sumOf_3 (by decide) ?_
  refine J_sub (A := [some (.ref 72), some (.int p1), some (.int p2), some (.int 0), some (.int 0)]) ⟨rfl, ⟨rfl, ⟨rfl, ⟨rfl, ⟨rfl, trivial⟩⟩⟩⟩⟩ (t_m_sumOf_L5 G p1 p2  FU 0 0 M)

theorem C_m_sumOf (l : Launch) (p1 : Int32) (p2 : Int32) (M : PM) : Ctr l Sh yX3_sumOf cX3_sumOf 5 (some .int) 1 rvI [.ref 72, .int p1, .int p2] M (m_sumOf p1 p2 M) := Ctr.of (by decide +kernel) (Nat.le_of_ble_eq_true rfl) (fun G => t_m_sumOf G p1 p2 M)

abbrev T_m_count (G : JG) (M : PM) (pc : Nat) (L : List (Option Value)) (S : List Value) (o : Option (Int32 × PM)) : Prop := JJ G cX3_count yX3_count 4 2 (some .int) Sh (finR G Sh rvI) M pc L S o
def m_count_L129 : Nat → Int32 → Int32 → PM → Option (Int32 × PM)
  | 0, _, _, _ => none
  | n + 1, v3, v4, M4 =>
    if (M4.i 72 2) ≤ v4 then (some (v3, M4))
    else (ck ((2 * v4) + 1) 20 <|
    lt (if (M4.i 76 (ix ((2 * v4) + 1))) = (-1) then 0 else (1 <<< (v4 &&& 31)) : Int32) fun v5 =>
    lt (v3 ||| v5) fun v6 =>
    lt (v4 + 1) fun v7 =>
    m_count_L129 n v6 v7 M4)

set_option maxHeartbeats 4000000 in
theorem t_m_count_L129 (G : JG) : ∀ (n : Nat) (v3 : Int32) (v4 : Int32) (M4 : PM), T_m_count G  M4 129 [some (.ref 72), none, some (.int v3), some (.int v4)] [] (m_count_L129 n v3 v4 M4) := by
  intro n
  induction n with
  | zero =>
    intro v3 v4 M4
    exact J_none
  | succ n ih =>
    intro v3 v4 M4
    rw [m_count_L129]
    refine J_iload_n (pc := 129) dX3_count_129 rfl ?_
    refine J_aload_n (pc := 130) dX3_count_130 rfl ?_
    refine J_get (pc := 131) (c := 2) (.int (M4.i 72 2)) rfl in_X3 2 (by decide) q1109 rfl (fun h => sh_k1 h 52 rfl) (fun _ _ => rfl) dX3_count_131 ?_
    refine J_icmp_ge (pc := 134) 167 dX3_count_134 rfl (fun h => if_pos h) (fun h => if_neg h) (fun _ => ?_) (fun _ => ?_)
    · refine J_iload_n (pc := 167) dX3_count_167 rfl ?_
      exact J_iret (pc := 168) dX3_count_168
    · refine J_iload_n (pc := 137) dX3_count_137 rfl ?_
      refine J_aload_n (pc := 138) dX3_count_138 rfl ?_
      refine J_get (pc := 139) (c := 2) (.ref 76) rfl in_X3 5 (by decide) q1112 rfl (fun h => sh_k1 h 52 rfl) (fun h _ => fv_ref (Or.inr ⟨_, rfl⟩) (sh_r h 54 rfl)) dX3_count_139 ?_
      refine J_iconst (pc := 142) 2 dX3_count_142 (by decide) ?_
      refine J_iload_n (pc := 143) dX3_count_143 rfl ?_
      refine J_imul (pc := 144) dX3_count_144 ?_
      refine J_iconst (pc := 145) 1 dX3_count_145 (by decide) ?_
      refine J_iadd (pc := 146) dX3_count_146 ?_
      refine J_ck (fun h3 => ?_)
      refine J_iald (pc := 147) (a := 76) (fun h => sh_a h 56 rfl h3) dX3_count_147 ?_
      refine J_iconst (pc := 148) (-1) dX3_count_148 (by decide) ?_
      refine J_ltj (β := Int32) (P := fun J => ∀ v5 : Int32, T_m_count G M4 159 [some (.ref 72), none, none, some (.int v4)] [.int v5, .int v3] (J v5)) (fun v5 => ?_) (fun j1 hj1 => ?_)
      · refine J_ior (pc := 159) dX3_count_159 ?_
        refine J_lt (β := Int32) (v := (v3 ||| v5)) (L := fun _ => _) (S := fun v6 => [.int v6]) (fun v6 => ?_)
        refine J_istore_n (pc := 160) dX3_count_160 (by decide) ?_
        refine J_iincL (pc := 161) (n := 1) (by decide) dX3_count_161 rfl (by decide) (fun v7 => ?_)
        refine J_goto (pc := 164) 129 dX3_count_164 rfl ?_
        exact J_sub (A := [some (.ref 72), none, some (.int v6), some (.int v7)]) ⟨rfl, ⟨rfl, ⟨rfl, trivial⟩⟩⟩ (ih v6 v7 M4)
      refine J_icmp_ne (pc := 149) 156 dX3_count_149 rfl (fun h => congrArg j1 (if_neg h)) (fun h => congrArg j1 (if_pos h)) (fun _ => ?_) (fun _ => ?_)
      · refine J_iconst (pc := 156) 1 dX3_count_156 (by decide) ?_
        refine J_iload_n (pc := 157) dX3_count_157 rfl ?_
        refine J_ishl (pc := 158) dX3_count_158 ?_
        exact J_sub (A := [some (.ref 72), none, none, some (.int v4)]) ⟨rfl, ⟨rfl, trivial⟩⟩ (hj1 (1 <<< (v4 &&& 31)))
      · refine J_iconst (pc := 152) 0 dX3_count_152 (by decide) ?_
        refine J_goto (pc := 153) 159 dX3_count_153 rfl ?_
        exact J_sub (A := [some (.ref 72), none, none, some (.int v4)]) ⟨rfl, ⟨rfl, trivial⟩⟩ (hj1 0)

def m_count (p1 : Int32) (M : PM) : Option (Int32 × PM) :=
    lt (M.si 72 13 0) fun M1 =>
    if p1 = 0 then (some ((M1.i 72 1), M1))
    else if p1 = 1 then (some ((M1.i 72 2), M1))
    else if p1 = 2 then (some ((M1.i 72 6), M1))
    else if p1 = 3 then (some ((M1.i 72 7), M1))
    else if p1 = 4 then (ck 12 44 <|
    some ((M1.i 73 (ix 12)), M1))
    else if p1 = 5 then (ck 13 44 <|
    some ((M1.i 73 (ix 13)), M1))
    else if p1 = 6 then (bd (m_sumOf 14 30 M1) fun v1 M2 =>
    some (v1, M2))
    else if p1 = 7 then (bd (m_sumOf 4 (M1.i 72 6) M1) fun v2 M3 =>
    some (v2, M3))
    else if p1 = 8 then (m_count_L129 FU 0 0 M1)
    else if p1 = 9 then (some ((M1.i 72 29), M1))
    else if p1 = 10 then (some ((M1.i 72 12), M1))
    else if p1 = 11 then (some ((M1.i 72 10), M1))
    else (some ((-1), M1))

set_option maxHeartbeats 4000000 in
theorem t_m_count (G : JG) (p1 : Int32) (M : PM) : T_m_count G  M 0 (ent [.ref 72, .int p1] 4) [] (m_count p1 M) := by
  unfold m_count
  refine J_aload_n (pc := 0) dX3_count_0 rfl ?_
  refine J_iconst (pc := 1) 0 dX3_count_1 (by decide) ?_
  refine J_put (pc := 2) (a := 72) (v := .int 0) (M' := M.si 72 13 0) (c := 2) rfl in_X3 tyX3_ok fnX3 13 (by decide) q1120 rfl (Or.inl rfl) (fun h => sh_k1 h 52 rfl) (fun _ => rfl) (fun _ => rfl) ⟨⟨rfl, rfl⟩, rfl⟩ (fun _ hb => up2_same hb) (fun _ _ => rfl) (fun _ _ => rfl) (put_i (fun _ _ _ => rfl)) (fun h => Sh_si h) dX3_count_2 ?_
  refine J_ltM (fun M1 => ?_)
  refine J_iconst (pc := 5) 0 dX3_count_5 (by decide) ?_
  refine J_istore_n (pc := 6) dX3_count_6 (by decide) ?_
  refine J_iload_n (pc := 7) dX3_count_7 rfl ?_
  refine J_ite (fun h_8_0 => ?_) (fun h_8_0 => ?_)
  · refine J_tableIn (pc := 8) 72 dX3_count_8 (by rw [h_8_0]; decide) (by rw [h_8_0]; decide) (by rw [h_8_0]; rfl) rfl ?_
    refine J_aload_n (pc := 72) dX3_count_72 rfl ?_
    refine J_get (pc := 73) (c := 2) (.int (M1.i 72 1)) rfl in_X3 1 (by decide) q1108 rfl (fun h => sh_k1 h 52 rfl) (fun _ _ => rfl) dX3_count_73 ?_
    exact J_iret (pc := 76) dX3_count_76
  · refine J_ite (fun h_8_1 => ?_) (fun h_8_1 => ?_)
    · refine J_tableIn (pc := 8) 77 dX3_count_8 (by rw [h_8_1]; decide) (by rw [h_8_1]; decide) (by rw [h_8_1]; rfl) rfl ?_
      refine J_aload_n (pc := 77) dX3_count_77 rfl ?_
      refine J_get (pc := 78) (c := 2) (.int (M1.i 72 2)) rfl in_X3 2 (by decide) q1109 rfl (fun h => sh_k1 h 52 rfl) (fun _ _ => rfl) dX3_count_78 ?_
      exact J_iret (pc := 81) dX3_count_81
    · refine J_ite (fun h_8_2 => ?_) (fun h_8_2 => ?_)
      · refine J_tableIn (pc := 8) 82 dX3_count_8 (by rw [h_8_2]; decide) (by rw [h_8_2]; decide) (by rw [h_8_2]; rfl) rfl ?_
        refine J_aload_n (pc := 82) dX3_count_82 rfl ?_
        refine J_get (pc := 83) (c := 2) (.int (M1.i 72 6)) rfl in_X3 6 (by decide) q1113 rfl (fun h => sh_k1 h 52 rfl) (fun _ _ => rfl) dX3_count_83 ?_
        exact J_iret (pc := 86) dX3_count_86
      · refine J_ite (fun h_8_3 => ?_) (fun h_8_3 => ?_)
        · refine J_tableIn (pc := 8) 87 dX3_count_8 (by rw [h_8_3]; decide) (by rw [h_8_3]; decide) (by rw [h_8_3]; rfl) rfl ?_
          refine J_aload_n (pc := 87) dX3_count_87 rfl ?_
          refine J_get (pc := 88) (c := 2) (.int (M1.i 72 7)) rfl in_X3 7 (by decide) q1114 rfl (fun h => sh_k1 h 52 rfl) (fun _ _ => rfl) dX3_count_88 ?_
          exact J_iret (pc := 91) dX3_count_91
        · refine J_ite (fun h_8_4 => ?_) (fun h_8_4 => ?_)
          · refine J_tableIn (pc := 8) 92 dX3_count_8 (by rw [h_8_4]; decide) (by rw [h_8_4]; decide) (by rw [h_8_4]; rfl) rfl ?_
            refine J_aload_n (pc := 92) dX3_count_92 rfl ?_
            refine J_get (pc := 93) (c := 2) (.ref 73) rfl in_X3 0 (by decide) q1107 rfl (fun h => sh_k1 h 52 rfl) (fun h _ => fv_ref (Or.inr ⟨_, rfl⟩) (sh_r h 51 rfl)) dX3_count_93 ?_
            refine J_bipush (pc := 96) 12 dX3_count_96 (by decide) ?_
            refine J_ck (fun h1 => ?_)
            refine J_iald (pc := 98) (a := 73) (fun h => sh_a h 53 rfl h1) dX3_count_98 ?_
            exact J_iret (pc := 99) dX3_count_99
          · refine J_ite (fun h_8_5 => ?_) (fun h_8_5 => ?_)
            · refine J_tableIn (pc := 8) 100 dX3_count_8 (by rw [h_8_5]; decide) (by rw [h_8_5]; decide) (by rw [h_8_5]; rfl) rfl ?_
              refine J_aload_n (pc := 100) dX3_count_100 rfl ?_
              refine J_get (pc := 101) (c := 2) (.ref 73) rfl in_X3 0 (by decide) q1107 rfl (fun h => sh_k1 h 52 rfl) (fun h _ => fv_ref (Or.inr ⟨_, rfl⟩) (sh_r h 51 rfl)) dX3_count_101 ?_
              refine J_bipush (pc := 104) 13 dX3_count_104 (by decide) ?_
              refine J_ck (fun h2 => ?_)
              refine J_iald (pc := 106) (a := 73) (fun h => sh_a h 53 rfl h2) dX3_count_106 ?_
              exact J_iret (pc := 107) dX3_count_107
            · refine J_ite (fun h_8_6 => ?_) (fun h_8_6 => ?_)
              · refine J_tableIn (pc := 8) 108 dX3_count_8 (by rw [h_8_6]; decide) (by rw [h_8_6]; decide) (by rw [h_8_6]; rfl) rfl ?_
                refine J_aload_n (pc := 108) dX3_count_108 rfl ?_
                refine J_bipush (pc := 109) 14 dX3_count_109 (by decide) ?_
                refine J_bipush (pc := 111) 30 dX3_count_111 (by decide) ?_
                refine J_callV (pc := 113) (n := 2) (b := 72) (vs := [.int 14, .int 30]) (ci := 2) (fun l => C_m_sumOf l 14 30 M1) (lw_V q1686 q1688 qs114 q118 q1689) nmv_X3_sumOf rfl (by omega) (by decide) rfl (fun h => sh_k1 h 52 rfl) rfl (Nat.le_of_ble_eq_true rfl) dX3_count_113 (fun v1 M2 => ?_)
                exact J_iret (pc := 116) dX3_count_116
              · refine J_ite (fun h_8_7 => ?_) (fun h_8_7 => ?_)
                · refine J_tableIn (pc := 8) 117 dX3_count_8 (by rw [h_8_7]; decide) (by rw [h_8_7]; decide) (by rw [h_8_7]; rfl) rfl ?_
                  refine J_aload_n (pc := 117) dX3_count_117 rfl ?_
                  refine J_iconst (pc := 118) 4 dX3_count_118 (by decide) ?_
                  refine J_aload_n (pc := 119) dX3_count_119 rfl ?_
                  refine J_get (pc := 120) (c := 2) (.int (M1.i 72 6)) rfl in_X3 6 (by decide) q1113 rfl (fun h => sh_k1 h 52 rfl) (fun _ _ => rfl) dX3_count_120 ?_
                  refine J_callV (pc := 123) (n := 2) (b := 72) (vs := [.int 4, .int (M1.i 72 6)]) (ci := 2) (fun l => C_m_sumOf l 4 (M1.i 72 6) M1) (lw_V q1686 q1688 qs114 q118 q1689) nmv_X3_sumOf rfl (by omega) (by decide) rfl (fun h => sh_k1 h 52 rfl) rfl (Nat.le_of_ble_eq_true rfl) dX3_count_123 (fun v2 M3 => ?_)
                  exact J_iret (pc := 126) dX3_count_126
                · refine J_ite (fun h_8_8 => ?_) (fun h_8_8 => ?_)
                  · refine J_tableIn (pc := 8) 127 dX3_count_8 (by rw [h_8_8]; decide) (by rw [h_8_8]; decide) (by rw [h_8_8]; rfl) rfl ?_
                    refine J_iconst (pc := 127) 0 dX3_count_127 (by decide) ?_
                    refine J_istore_n (pc := 128) dX3_count_128 (by decide) ?_
                    refine J_sub (A := [some (.ref 72), none, some (.int 0), some (.int 0)]) ⟨rfl, ⟨rfl, ⟨rfl, trivial⟩⟩⟩ (t_m_count_L129 G   FU 0 0 M1)
                  · refine J_ite (fun h_8_9 => ?_) (fun h_8_9 => ?_)
                    · refine J_tableIn (pc := 8) 169 dX3_count_8 (by rw [h_8_9]; decide) (by rw [h_8_9]; decide) (by rw [h_8_9]; rfl) rfl ?_
                      refine J_aload_n (pc := 169) dX3_count_169 rfl ?_
                      refine J_get (pc := 170) (c := 2) (.int (M1.i 72 29)) rfl in_X3 29 (by decide) q1136 rfl (fun h => sh_k1 h 52 rfl) (fun _ _ => rfl) dX3_count_170 ?_
                      exact J_iret (pc := 173) dX3_count_173
                    · refine J_ite (fun h_8_10 => ?_) (fun h_8_10 => ?_)
                      · refine J_tableIn (pc := 8) 174 dX3_count_8 (by rw [h_8_10]; decide) (by rw [h_8_10]; decide) (by rw [h_8_10]; rfl) rfl ?_
                        refine J_aload_n (pc := 174) dX3_count_174 rfl ?_
                        refine J_get (pc := 175) (c := 2) (.int (M1.i 72 12)) rfl in_X3 12 (by decide) q1119 rfl (fun h => sh_k1 h 52 rfl) (fun _ _ => rfl) dX3_count_175 ?_
                        exact J_iret (pc := 178) dX3_count_178
                      · refine J_ite (fun h_8_11 => ?_) (fun h_8_11 => ?_)
                        · refine J_tableIn (pc := 8) 179 dX3_count_8 (by rw [h_8_11]; decide) (by rw [h_8_11]; decide) (by rw [h_8_11]; rfl) rfl ?_
                          refine J_aload_n (pc := 179) dX3_count_179 rfl ?_
                          refine J_get (pc := 180) (c := 2) (.int (M1.i 72 10)) rfl in_X3 10 (by decide) q1117 rfl (fun h => sh_k1 h 52 rfl) (fun _ _ => rfl) dX3_count_180 ?_
                          exact J_iret (pc := 183) dX3_count_183
                        · refine J_tableD (pc := 8) 184 dX3_count_8 rfl (by decide) (by decide) [0, 1, 2, 3, 4, 5, 6, 7, 8, 9, 10, 11] (by decide +kernel) (by simp only [List.mem_cons, List.not_mem_nil, or_false, forall_eq_or_imp, forall_eq]; exact ⟨fun q => h_8_0 (i32_of q), fun q => h_8_1 (i32_of q), fun q => h_8_2 (i32_of q), fun q => h_8_3 (i32_of q), fun q => h_8_4 (i32_of q), fun q => h_8_5 (i32_of q), fun q => h_8_6 (i32_of q), fun q => h_8_7 (i32_of q), fun q => h_8_8 (i32_of q), fun q => h_8_9 (i32_of q), fun q => h_8_10 (i32_of q), fun q => h_8_11 (i32_of q)⟩) ?_
                          refine J_iconst (pc := 184) (-1) dX3_count_184 (by decide) ?_
                          exact J_iret (pc := 185) dX3_count_185

theorem C_m_count (l : Launch) (p1 : Int32) (M : PM) : Ctr l Sh yX3_count cX3_count 4 (some .int) 2 rvI [.ref 72, .int p1] M (m_count p1 M) := Ctr.of (by decide +kernel) (Nat.le_of_ble_eq_true rfl) (fun G => t_m_count G p1 M)

abbrev T_m_row (G : JG) (M : PM) (pc : Nat) (L : List (Option Value)) (S : List Value) (o : Option (Int64 × PM)) : Prop := JJ G cX3_row yX3_row 2 2 (some .long) Sh (finR G Sh rvL) M pc L S o
def m_row (p1 : Int32) (M : PM) : Option (Int64 × PM) :=
    lt (M.si 72 13 0) fun M1 =>
    bd (m_in p1 0 ((M1.i 72 12) - 1) M1) fun v1 M2 =>
    if v1 = 0 then (bd (m_lost M2) fun v2 M3 =>
    some ((Int32.toInt64 v2), M3))
    else (ck p1 20 <|
    some ((M2.l 79 (ix p1)), M2))

set_option maxHeartbeats 4000000 in
theorem t_m_row (G : JG) (p1 : Int32) (M : PM) : T_m_row G  M 0 (ent [.ref 72, .int p1] 2) [] (m_row p1 M) := by
  unfold m_row
  refine J_aload_n (pc := 0) dX3_row_0 rfl ?_
  refine J_iconst (pc := 1) 0 dX3_row_1 (by decide) ?_
  refine J_put (pc := 2) (a := 72) (v := .int 0) (M' := M.si 72 13 0) (c := 2) rfl in_X3 tyX3_ok fnX3 13 (by decide) q1120 rfl (Or.inl rfl) (fun h => sh_k1 h 52 rfl) (fun _ => rfl) (fun _ => rfl) ⟨⟨rfl, rfl⟩, rfl⟩ (fun _ hb => up2_same hb) (fun _ _ => rfl) (fun _ _ => rfl) (put_i (fun _ _ _ => rfl)) (fun h => Sh_si h) dX3_row_2 ?_
  refine J_ltM (fun M1 => ?_)
  refine J_iload_n (pc := 5) dX3_row_5 rfl ?_
  refine J_iconst (pc := 6) 0 dX3_row_6 (by decide) ?_
  refine J_aload_n (pc := 7) dX3_row_7 rfl ?_
  refine J_get (pc := 8) (c := 2) (.int (M1.i 72 12)) rfl in_X3 12 (by decide) q1119 rfl (fun h => sh_k1 h 52 rfl) (fun _ _ => rfl) dX3_row_8 ?_
  refine J_iconst (pc := 11) 1 dX3_row_11 (by decide) ?_
  refine J_isub (pc := 12) dX3_row_12 ?_
  refine J_callS (pc := 13) (n := 3) (vs := [.int p1, .int 0, .int ((M1.i 72 12) - 1)]) (fun l => C_m_in l p1 0 ((M1.i 72 12) - 1) M1) (lw_S q1289 q1290 q118 q1291) nmh_X3_in rfl (by omega) (by decide) rfl (Nat.le_of_ble_eq_true rfl) dX3_row_13 (fun v1 M2 => ?_)
  refine J_if_eq (pc := 16) 28 dX3_row_16 rfl (fun h => if_pos h) (fun h => if_neg h) (fun _ => ?_) (fun _ => ?_)
  · refine J_aload_n (pc := 28) dX3_row_28 rfl ?_
    refine J_callV (pc := 29) (n := 0) (b := 72) (vs := []) (ci := 2) (fun l => C_m_lost l  M2) (lw_V q1387 q1389 qs77 q118 q1390) nmv_X3_lost rfl (by omega) (by decide) rfl (fun h => sh_k1 h 52 rfl) rfl (Nat.le_of_ble_eq_true rfl) dX3_row_29 (fun v2 M3 => ?_)
    refine J_i2l (pc := 32) dX3_row_32 ?_
    exact J_lret (pc := 33) dX3_row_33
  · refine J_aload_n (pc := 19) dX3_row_19 rfl ?_
    refine J_get (pc := 20) (c := 2) (.ref 79) rfl in_X3 11 (by decide) q1118 rfl (fun h => sh_k1 h 52 rfl) (fun h _ => fv_ref (Or.inr ⟨_, rfl⟩) (sh_r h 57 rfl)) dX3_row_20 ?_
    refine J_iload_n (pc := 23) dX3_row_23 rfl ?_
    refine J_ck (fun h1 => ?_)
    refine J_lald (pc := 24) (a := 79) (fun h => sh_a h 59 rfl h1) dX3_row_24 ?_
    refine J_goto (pc := 25) 33 dX3_row_25 rfl ?_
    exact J_lret (pc := 33) dX3_row_33

theorem C_m_row (l : Launch) (p1 : Int32) (M : PM) : Ctr l Sh yX3_row cX3_row 2 (some .long) 2 rvL [.ref 72, .int p1] M (m_row p1 M) := Ctr.of (by decide +kernel) (Nat.le_of_ble_eq_true rfl) (fun G => t_m_row G p1 M)

