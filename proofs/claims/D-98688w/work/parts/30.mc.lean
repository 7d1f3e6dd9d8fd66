set_option maxRecDepth 100000
abbrev T_m_sentence (G : JG) (M : PM) (pc : Nat) (L : List (Option Value)) (S : List Value) (o : Option (Int32 × PM)) : Prop := JJ G cX3_sentence yX3_sentence 5 143 (some .int) Sh (finR G Sh rvI) M pc L S o
def m_sentence_L28 (c1 : Int32) (c2 : Int32) (k65 : PM → Option (Int32 × PM)) (k55 : Int32 → PM → Option (Int32 × PM)) : Nat → Int32 → PM → Option (Int32 × PM)
  | 0, _, _ => none
  | n + 1, v3, M4 =>
    if c2 ≤ v3 then (k65 M4)
    else (jn (fun (M5 : PM) =>
    k55 v3 M5) fun j1 =>
    if v3 = 12 then (j1 M4)
    else (ck v3 80 <|
    bd (m_in (M4.i 78 (ix v3)) 48 57 M4) fun v4 M6 =>
    if v4 = 0 then (j1 M6)
    else (lt (v3 + 1) fun v5 =>
    m_sentence_L28 c1 c2 k65 k55 n v5 M6)))

set_option maxHeartbeats 4000000 in
theorem t_m_sentence_L28 (G : JG) (c1 : Int32) (c2 : Int32) (k65 : PM → Option (Int32 × PM)) (k55 : Int32 → PM → Option (Int32 × PM)) (hk65 : ∀ Me, T_m_sentence G  Me 65 [some (.ref 72), some (.int c1), some (.int c2), none, none] [] (k65 Me)) (hk55 : ∀ z3 Me, T_m_sentence G  Me 55 [none, none, none, some (.int z3), none] [] (k55 z3 Me)) : ∀ (n : Nat) (v3 : Int32) (M4 : PM), T_m_sentence G  M4 28 [some (.ref 72), some (.int c1), some (.int c2), some (.int v3), none] [] (m_sentence_L28 c1 c2 k65 k55 n v3 M4) := by
  intro n
  induction n with
  | zero =>
    intro v3 M4
    exact J_none
  | succ n ih =>
    intro v3 M4
    rw [m_sentence_L28]
    refine J_iload_n (pc := 28) dX3_sentence_28 rfl ?_
    refine J_iload_n (pc := 29) dX3_sentence_29 rfl ?_
    refine J_icmp_ge (pc := 30) 65 dX3_sentence_30 rfl (fun h => if_pos h) (fun h => if_neg h) (fun _ => ?_) (fun _ => ?_)
    · exact J_sub (A := [some (.ref 72), some (.int c1), some (.int c2), none, none]) ⟨rfl, ⟨rfl, ⟨rfl, trivial⟩⟩⟩ (hk65 M4)
    · refine J_iload_n (pc := 33) dX3_sentence_33 rfl ?_
      refine J_bipush (pc := 34) 12 dX3_sentence_34 (by decide) ?_
      refine J_jn (P := fun J => ∀ (M5 : PM), T_m_sentence G  M5 55 [none, none, none, some (.int v3), none] [] (J M5)) (fun M5 => ?_) (fun j1 hj1 => ?_)
      · exact J_sub (A := [none, none, none, some (.int v3), none]) ⟨rfl, trivial⟩ (hk55 v3 M5)
      refine J_icmp_eq (pc := 36) 55 dX3_sentence_36 rfl (fun h => if_pos h) (fun h => if_neg h) (fun _ => ?_) (fun _ => ?_)
      · exact J_sub (A := [none, none, none, some (.int v3), none]) ⟨rfl, trivial⟩ (hj1 M4)
      · refine J_aload_n (pc := 39) dX3_sentence_39 rfl ?_
        refine J_get (pc := 40) (c := 2) (.ref 78) rfl in_X3 9 (by decide) q1116 rfl (fun h => sh_k1 h 52 rfl) (fun h _ => fv_ref (Or.inr ⟨_, rfl⟩) (sh_r h 56 rfl)) dX3_sentence_40 ?_
        refine J_iload_n (pc := 43) dX3_sentence_43 rfl ?_
        refine J_ck (fun h1 => ?_)
        refine J_bald (pc := 44) (a := 78) (fun h => sh_a h 58 rfl h1) dX3_sentence_44 ?_
        refine J_bipush (pc := 45) 48 dX3_sentence_45 (by decide) ?_
        refine J_bipush (pc := 47) 57 dX3_sentence_47 (by decide) ?_
        refine J_callS (pc := 49) (n := 3) (vs := [.int (M4.i 78 (ix v3)), .int 48, .int 57]) (fun l => C_m_in l (M4.i 78 (ix v3)) 48 57 M4) (lw_S q1289 q1290 q118 q1291) nmh_X3_in rfl (by omega) (by decide) rfl (Nat.le_of_ble_eq_true rfl) dX3_sentence_49 (fun v4 M6 => ?_)
        refine J_if_ne (pc := 52) 59 dX3_sentence_52 rfl (fun h => if_neg h) (fun h => if_pos h) (fun _ => ?_) (fun _ => ?_)
        · refine J_iincL (pc := 59) (n := 1) (by decide) dX3_sentence_59 rfl (by decide) (fun v5 => ?_)
          refine J_goto (pc := 62) 28 dX3_sentence_62 rfl ?_
          exact J_sub (A := [some (.ref 72), some (.int c1), some (.int c2), some (.int v5), none]) ⟨rfl, ⟨rfl, ⟨rfl, ⟨rfl, trivial⟩⟩⟩⟩ (ih v5 M6)
        · exact J_sub (A := [none, none, none, some (.int v3), none]) ⟨rfl, trivial⟩ (hj1 M6)

def m_sentence_L98 (c1 : Int32) (c2 : Int32) (c3 : Int32) (k162 : PM → Option (Int32 × PM)) : Nat → Int32 → PM → Option (Int32 × PM)
  | 0, _, _ => none
  | n + 1, v8, M11 =>
    if (M11.i 72 2) ≤ v8 then (k162 M11)
    else (bd (m_tells v8 c3 c2 M11) fun v9 M12 =>
    jn (fun (M13 : PM) =>
    lt (v8 + 1) fun v10 =>
    m_sentence_L98 c1 c2 c3 k162 n v10 M13) fun j2 =>
    if v9 ≤ 0 then (j2 M12)
    else (ck c3 13 <|
    bd (m_tollNow v8 c1 M12) fun v11 M14 =>
    bd (m_tells v8 c3 c2 M14) fun v12 M15 =>
    ck (c3 + v12) 13 <|
    ck c3 13 <|
    lt (M15.si 90 (ix c3) (imin (M12.i 90 (ix c3)) (v11 + (M15.i 90 (ix (c3 + v12)))))) fun M16 =>
    j2 M16))

set_option maxHeartbeats 4000000 in
theorem t_m_sentence_L98 (G : JG) (c1 : Int32) (c2 : Int32) (c3 : Int32) (k162 : PM → Option (Int32 × PM)) (hk162 : ∀ Me, T_m_sentence G  Me 162 [some (.ref 72), some (.int c1), some (.int c2), some (.int c3), none] [] (k162 Me)) : ∀ (n : Nat) (v8 : Int32) (M11 : PM), T_m_sentence G  M11 98 [some (.ref 72), some (.int c1), some (.int c2), some (.int c3), some (.int v8)] [] (m_sentence_L98 c1 c2 c3 k162 n v8 M11) := by
  intro n
  induction n with
  | zero =>
    intro v8 M11
    exact J_none
  | succ n ih =>
    intro v8 M11
    rw [m_sentence_L98]
    refine J_iload (pc := 98) dX3_sentence_98 rfl ?_
    refine J_aload_n (pc := 100) dX3_sentence_100 rfl ?_
    refine J_get (pc := 101) (c := 2) (.int (M11.i 72 2)) rfl in_X3 2 (by decide) q1109 rfl (fun h => sh_k1 h 52 rfl) (fun _ _ => rfl) dX3_sentence_101 ?_
    refine J_icmp_ge (pc := 104) 162 dX3_sentence_104 rfl (fun h => if_pos h) (fun h => if_neg h) (fun _ => ?_) (fun _ => ?_)
    · exact J_sub (A := [some (.ref 72), some (.int c1), some (.int c2), some (.int c3), none]) ⟨rfl, ⟨rfl, ⟨rfl, ⟨rfl, trivial⟩⟩⟩⟩ (hk162 M11)
    · refine J_aload_n (pc := 107) dX3_sentence_107 rfl ?_
      refine J_iload (pc := 108) dX3_sentence_108 rfl ?_
      refine J_iload_n (pc := 110) dX3_sentence_110 rfl ?_
      refine J_iload_n (pc := 111) dX3_sentence_111 rfl ?_
      refine J_callV (pc := 112) (n := 3) (b := 72) (vs := [.int v8, .int c3, .int c2]) (ci := 2) (fun l => C_m_tells l v8 c3 c2 M11) (lw_V q1537 q1539 qs97 q118 q1540) nmv_X3_tells rfl (by omega) (by decide) rfl (fun h => sh_k1 h 52 rfl) rfl (Nat.le_of_ble_eq_true rfl) dX3_sentence_112 (fun v9 M12 => ?_)
      refine J_jn (P := fun J => ∀ (M13 : PM), T_m_sentence G  M13 156 [some (.ref 72), some (.int c1), some (.int c2), some (.int c3), some (.int v8)] [] (J M13)) (fun M13 => ?_) (fun j2 hj2 => ?_)
      · refine J_iincL (pc := 156) (n := 1) (by decide) dX3_sentence_156 rfl (by decide) (fun v10 => ?_)
        refine J_goto (pc := 159) 98 dX3_sentence_159 rfl ?_
        exact J_sub (A := [some (.ref 72), some (.int c1), some (.int c2), some (.int c3), some (.int v10)]) ⟨rfl, ⟨rfl, ⟨rfl, ⟨rfl, ⟨rfl, trivial⟩⟩⟩⟩⟩ (ih v10 M13)
      refine J_if_le (pc := 115) 156 dX3_sentence_115 rfl (fun h => if_pos h) (fun h => if_neg h) (fun _ => ?_) (fun _ => ?_)
      · exact J_sub (A := [some (.ref 72), some (.int c1), some (.int c2), some (.int c3), some (.int v8)]) ⟨rfl, ⟨rfl, ⟨rfl, ⟨rfl, ⟨rfl, trivial⟩⟩⟩⟩⟩ (hj2 M12)
      · refine J_aload_n (pc := 118) dX3_sentence_118 rfl ?_
        refine J_get (pc := 119) (c := 2) (.ref 90) rfl in_X3 34 (by decide) q1141 rfl (fun h => sh_k1 h 52 rfl) (fun h _ => fv_ref (Or.inr ⟨_, rfl⟩) (sh_r h 66 rfl)) dX3_sentence_119 ?_
        refine J_iload_n (pc := 122) dX3_sentence_122 rfl ?_
        refine J_aload_n (pc := 123) dX3_sentence_123 rfl ?_
        refine J_get (pc := 124) (c := 2) (.ref 90) rfl in_X3 34 (by decide) q1141 rfl (fun h => sh_k1 h 52 rfl) (fun h _ => fv_ref (Or.inr ⟨_, rfl⟩) (sh_r h 66 rfl)) dX3_sentence_124 ?_
        refine J_iload_n (pc := 127) dX3_sentence_127 rfl ?_
        refine J_ck (fun h4 => ?_)
        refine J_iald (pc := 128) (a := 90) (fun h => sh_a h 70 rfl h4) dX3_sentence_128 ?_
        refine J_aload_n (pc := 129) dX3_sentence_129 rfl ?_
        refine J_iload (pc := 130) dX3_sentence_130 rfl ?_
        refine J_iload_n (pc := 132) dX3_sentence_132 rfl ?_
        refine J_callV (pc := 133) (n := 2) (b := 72) (vs := [.int v8, .int c1]) (ci := 2) (fun l => C_m_tollNow l v8 c1 M12) (lw_V q1447 q1449 qs85 q118 q1450) nmv_X3_tollNow rfl (by omega) (by decide) rfl (fun h => sh_k1 h 52 rfl) rfl (Nat.le_of_ble_eq_true rfl) dX3_sentence_133 (fun v11 M14 => ?_)
        refine J_aload_n (pc := 136) dX3_sentence_136 rfl ?_
        refine J_get (pc := 137) (c := 2) (.ref 90) rfl in_X3 34 (by decide) q1141 rfl (fun h => sh_k1 h 52 rfl) (fun h _ => fv_ref (Or.inr ⟨_, rfl⟩) (sh_r h 66 rfl)) dX3_sentence_137 ?_
        refine J_iload_n (pc := 140) dX3_sentence_140 rfl ?_
        refine J_aload_n (pc := 141) dX3_sentence_141 rfl ?_
        refine J_iload (pc := 142) dX3_sentence_142 rfl ?_
        refine J_iload_n (pc := 144) dX3_sentence_144 rfl ?_
        refine J_iload_n (pc := 145) dX3_sentence_145 rfl ?_
        refine J_callV (pc := 146) (n := 3) (b := 72) (vs := [.int v8, .int c3, .int c2]) (ci := 2) (fun l => C_m_tells l v8 c3 c2 M14) (lw_V q1537 q1539 qs97 q118 q1540) nmv_X3_tells rfl (by omega) (by decide) rfl (fun h => sh_k1 h 52 rfl) rfl (Nat.le_of_ble_eq_true rfl) dX3_sentence_146 (fun v12 M15 => ?_)
        refine J_iadd (pc := 149) dX3_sentence_149 ?_
        refine J_ck (fun h5 => ?_)
        refine J_iald (pc := 150) (a := 90) (fun h => sh_a h 70 rfl h5) dX3_sentence_150 ?_
        refine J_iadd (pc := 151) dX3_sentence_151 ?_
        refine J_min (pc := 152) (by omega) q1441 q410 q119 q411 (Nat.le_of_ble_eq_true rfl) dX3_sentence_152 ?_
        refine J_ck (fun h6 => ?_)
        refine J_iast (pc := 155) (a := 90) (fun h => sh_a h 70 rfl h6) (fun h => Sh_si h) dX3_sentence_155 ?_
        refine J_ltM (fun M16 => ?_)
        exact J_sub (A := [some (.ref 72), some (.int c1), some (.int c2), some (.int c3), some (.int v8)]) ⟨rfl, ⟨rfl, ⟨rfl, ⟨rfl, ⟨rfl, trivial⟩⟩⟩⟩⟩ (hj2 M16)

def m_sentence_L82 (c1 : Int32) (c2 : Int32) (k168 : PM → Option (Int32 × PM)) : Nat → Int32 → PM → Option (Int32 × PM)
  | 0, _, _ => none
  | n + 1, v7, M9 =>
    if v7 < 0 then (k168 M9)
    else (ck v7 13 <|
    lt (M9.si 90 (ix v7) 100000000) fun M10 =>
    m_sentence_L98 c1 c2 v7 (fun (M17 : PM) =>
    lt (v7 + (-1)) fun v13 =>
    m_sentence_L82 c1 c2 k168 n v13 M17) FU 0 M10)

set_option maxHeartbeats 4000000 in
theorem t_m_sentence_L82 (G : JG) (c1 : Int32) (c2 : Int32) (k168 : PM → Option (Int32 × PM)) (hk168 : ∀ Me, T_m_sentence G  Me 168 [some (.ref 72), some (.int c1), some (.int c2), none, none] [] (k168 Me)) : ∀ (n : Nat) (v7 : Int32) (M9 : PM), T_m_sentence G  M9 82 [some (.ref 72), some (.int c1), some (.int c2), some (.int v7), none] [] (m_sentence_L82 c1 c2 k168 n v7 M9) := by
  intro n
  induction n with
  | zero =>
    intro v7 M9
    exact J_none
  | succ n ih =>
    intro v7 M9
    rw [m_sentence_L82]
    refine J_iload_n (pc := 82) dX3_sentence_82 rfl ?_
    refine J_if_lt (pc := 83) 168 dX3_sentence_83 rfl (fun h => if_pos h) (fun h => if_neg h) (fun _ => ?_) (fun _ => ?_)
    · exact J_sub (A := [some (.ref 72), some (.int c1), some (.int c2), none, none]) ⟨rfl, ⟨rfl, ⟨rfl, trivial⟩⟩⟩ (hk168 M9)
    · refine J_aload_n (pc := 86) dX3_sentence_86 rfl ?_
      refine J_get (pc := 87) (c := 2) (.ref 90) rfl in_X3 34 (by decide) q1141 rfl (fun h => sh_k1 h 52 rfl) (fun h _ => fv_ref (Or.inr ⟨_, rfl⟩) (sh_r h 66 rfl)) dX3_sentence_87 ?_
      refine J_iload_n (pc := 90) dX3_sentence_90 rfl ?_
      refine J_ldcw (pc := 91) 100000000 q1536 dX3_sentence_91 ?_
      refine J_ck (fun h3 => ?_)
      refine J_iast (pc := 94) (a := 90) (fun h => sh_a h 70 rfl h3) (fun h => Sh_si h) dX3_sentence_94 ?_
      refine J_ltM (fun M10 => ?_)
      refine J_iconst (pc := 95) 0 dX3_sentence_95 (by decide) ?_
      refine J_istore (pc := 96) dX3_sentence_96 (by decide) ?_
      refine J_sub (A := [some (.ref 72), some (.int c1), some (.int c2), some (.int v7), some (.int 0)]) ⟨rfl, ⟨rfl, ⟨rfl, ⟨rfl, ⟨rfl, trivial⟩⟩⟩⟩⟩ (t_m_sentence_L98 G c1 c2 v7 _ ?_ FU 0 M10)
      · intro M17
        refine J_iincL (pc := 162) (n := (-1)) (by decide) dX3_sentence_162 rfl (by decide) (fun v13 => ?_)
        refine J_goto (pc := 165) 82 dX3_sentence_165 rfl ?_
        exact J_sub (A := [some (.ref 72), some (.int c1), some (.int c2), some (.int v13), none]) ⟨rfl, ⟨rfl, ⟨rfl, ⟨rfl, trivial⟩⟩⟩⟩ (ih v13 M17)

def m_sentence_L199 (c1 : Int32) (c2 : Int32) (c3 : Int32) (k248 : Int32 → PM → Option (Int32 × PM)) : Nat → Int32 → PM → Option (Int32 × PM)
  | 0, _, _ => none
  | n + 1, v15, M21 =>
    bd (m_tells v15 c3 c2 M21) fun v16 M22 =>
    jn (fun (M23 : PM) =>
    lt (v15 + 1) fun v17 =>
    m_sentence_L199 c1 c2 c3 k248 n v17 M23) fun j3 =>
    if v16 = 0 then (j3 M22)
    else (bd (m_tollNow v15 c1 M22) fun v18 M24 =>
    bd (m_tells v15 c3 c2 M24) fun v19 M25 =>
    ck (c3 + v19) 13 <|
    ck c3 13 <|
    if (v18 + (M25.i 90 (ix (c3 + v19)))) = (M25.i 90 (ix c3)) then (k248 v15 M25)
    else (j3 M25))

set_option maxHeartbeats 4000000 in
theorem t_m_sentence_L199 (G : JG) (c1 : Int32) (c2 : Int32) (c3 : Int32) (k248 : Int32 → PM → Option (Int32 × PM)) (hk248 : ∀ z4 Me, T_m_sentence G  Me 248 [some (.ref 72), some (.int c1), some (.int c2), some (.int c3), some (.int z4)] [] (k248 z4 Me)) : ∀ (n : Nat) (v15 : Int32) (M21 : PM), T_m_sentence G  M21 199 [some (.ref 72), some (.int c1), some (.int c2), some (.int c3), some (.int v15)] [] (m_sentence_L199 c1 c2 c3 k248 n v15 M21) := by
  intro n
  induction n with
  | zero =>
    intro v15 M21
    exact J_none
  | succ n ih =>
    intro v15 M21
    rw [m_sentence_L199]
    refine J_aload_n (pc := 199) dX3_sentence_199 rfl ?_
    refine J_iload (pc := 200) dX3_sentence_200 rfl ?_
    refine J_iload_n (pc := 202) dX3_sentence_202 rfl ?_
    refine J_iload_n (pc := 203) dX3_sentence_203 rfl ?_
    refine J_callV (pc := 204) (n := 3) (b := 72) (vs := [.int v15, .int c3, .int c2]) (ci := 2) (fun l => C_m_tells l v15 c3 c2 M21) (lw_V q1537 q1539 qs97 q118 q1540) nmv_X3_tells rfl (by omega) (by decide) rfl (fun h => sh_k1 h 52 rfl) rfl (Nat.le_of_ble_eq_true rfl) dX3_sentence_204 (fun v16 M22 => ?_)
    refine J_jn (P := fun J => ∀ (M23 : PM), T_m_sentence G  M23 242 [some (.ref 72), some (.int c1), some (.int c2), some (.int c3), some (.int v15)] [] (J M23)) (fun M23 => ?_) (fun j3 hj3 => ?_)
    · refine J_iincL (pc := 242) (n := 1) (by decide) dX3_sentence_242 rfl (by decide) (fun v17 => ?_)
      refine J_goto (pc := 245) 199 dX3_sentence_245 rfl ?_
      exact J_sub (A := [some (.ref 72), some (.int c1), some (.int c2), some (.int c3), some (.int v17)]) ⟨rfl, ⟨rfl, ⟨rfl, ⟨rfl, ⟨rfl, trivial⟩⟩⟩⟩⟩ (ih v17 M23)
    refine J_if_eq (pc := 207) 242 dX3_sentence_207 rfl (fun h => if_pos h) (fun h => if_neg h) (fun _ => ?_) (fun _ => ?_)
    · exact J_sub (A := [some (.ref 72), some (.int c1), some (.int c2), some (.int c3), some (.int v15)]) ⟨rfl, ⟨rfl, ⟨rfl, ⟨rfl, ⟨rfl, trivial⟩⟩⟩⟩⟩ (hj3 M22)
    · refine J_aload_n (pc := 210) dX3_sentence_210 rfl ?_
      refine J_iload (pc := 211) dX3_sentence_211 rfl ?_
      refine J_iload_n (pc := 213) dX3_sentence_213 rfl ?_
      refine J_callV (pc := 214) (n := 2) (b := 72) (vs := [.int v15, .int c1]) (ci := 2) (fun l => C_m_tollNow l v15 c1 M22) (lw_V q1447 q1449 qs85 q118 q1450) nmv_X3_tollNow rfl (by omega) (by decide) rfl (fun h => sh_k1 h 52 rfl) rfl (Nat.le_of_ble_eq_true rfl) dX3_sentence_214 (fun v18 M24 => ?_)
      refine J_aload_n (pc := 217) dX3_sentence_217 rfl ?_
      refine J_get (pc := 218) (c := 2) (.ref 90) rfl in_X3 34 (by decide) q1141 rfl (fun h => sh_k1 h 52 rfl) (fun h _ => fv_ref (Or.inr ⟨_, rfl⟩) (sh_r h 66 rfl)) dX3_sentence_218 ?_
      refine J_iload_n (pc := 221) dX3_sentence_221 rfl ?_
      refine J_aload_n (pc := 222) dX3_sentence_222 rfl ?_
      refine J_iload (pc := 223) dX3_sentence_223 rfl ?_
      refine J_iload_n (pc := 225) dX3_sentence_225 rfl ?_
      refine J_iload_n (pc := 226) dX3_sentence_226 rfl ?_
      refine J_callV (pc := 227) (n := 3) (b := 72) (vs := [.int v15, .int c3, .int c2]) (ci := 2) (fun l => C_m_tells l v15 c3 c2 M24) (lw_V q1537 q1539 qs97 q118 q1540) nmv_X3_tells rfl (by omega) (by decide) rfl (fun h => sh_k1 h 52 rfl) rfl (Nat.le_of_ble_eq_true rfl) dX3_sentence_227 (fun v19 M25 => ?_)
      refine J_iadd (pc := 230) dX3_sentence_230 ?_
      refine J_ck (fun h8 => ?_)
      refine J_iald (pc := 231) (a := 90) (fun h => sh_a h 70 rfl h8) dX3_sentence_231 ?_
      refine J_iadd (pc := 232) dX3_sentence_232 ?_
      refine J_aload_n (pc := 233) dX3_sentence_233 rfl ?_
      refine J_get (pc := 234) (c := 2) (.ref 90) rfl in_X3 34 (by decide) q1141 rfl (fun h => sh_k1 h 52 rfl) (fun h _ => fv_ref (Or.inr ⟨_, rfl⟩) (sh_r h 66 rfl)) dX3_sentence_234 ?_
      refine J_iload_n (pc := 237) dX3_sentence_237 rfl ?_
      refine J_ck (fun h9 => ?_)
      refine J_iald (pc := 238) (a := 90) (fun h => sh_a h 70 rfl h9) dX3_sentence_238 ?_
      refine J_icmp_eq (pc := 239) 248 dX3_sentence_239 rfl (fun h => if_pos h) (fun h => if_neg h) (fun _ => ?_) (fun _ => ?_)
      · exact J_sub (A := [some (.ref 72), some (.int c1), some (.int c2), some (.int c3), some (.int v15)]) ⟨rfl, ⟨rfl, ⟨rfl, ⟨rfl, ⟨rfl, trivial⟩⟩⟩⟩⟩ (hk248 v15 M25)
      · exact J_sub (A := [some (.ref 72), some (.int c1), some (.int c2), some (.int c3), some (.int v15)]) ⟨rfl, ⟨rfl, ⟨rfl, ⟨rfl, ⟨rfl, trivial⟩⟩⟩⟩⟩ (hj3 M25)

def m_sentence_L191 (c1 : Int32) (c2 : Int32) (k269 : PM → Option (Int32 × PM)) : Nat → Int32 → PM → Option (Int32 × PM)
  | 0, _, _ => none
  | n + 1, v14, M20 =>
    if c2 ≤ v14 then (k269 M20)
    else (m_sentence_L199 c1 c2 v14 (fun (v20 : Int32) (M26 : PM) =>
    bd (m_tell (Int32.toInt64 v20) M26) fun _ M27 =>
    bd (m_tells v20 v14 c2 M27) fun v21 M28 =>
    lt (v14 + v21) fun v22 =>
    m_sentence_L191 c1 c2 k269 n v22 M28) FU 0 M20)

set_option maxHeartbeats 4000000 in
theorem t_m_sentence_L191 (G : JG) (c1 : Int32) (c2 : Int32) (k269 : PM → Option (Int32 × PM)) (hk269 : ∀ Me, T_m_sentence G  Me 269 [some (.ref 72), none, none, none, none] [] (k269 Me)) : ∀ (n : Nat) (v14 : Int32) (M20 : PM), T_m_sentence G  M20 191 [some (.ref 72), some (.int c1), some (.int c2), some (.int v14), none] [] (m_sentence_L191 c1 c2 k269 n v14 M20) := by
  intro n
  induction n with
  | zero =>
    intro v14 M20
    exact J_none
  | succ n ih =>
    intro v14 M20
    rw [m_sentence_L191]
    refine J_iload_n (pc := 191) dX3_sentence_191 rfl ?_
    refine J_iload_n (pc := 192) dX3_sentence_192 rfl ?_
    refine J_icmp_ge (pc := 193) 269 dX3_sentence_193 rfl (fun h => if_pos h) (fun h => if_neg h) (fun _ => ?_) (fun _ => ?_)
    · exact J_sub (A := [some (.ref 72), none, none, none, none]) ⟨rfl, trivial⟩ (hk269 M20)
    · refine J_iconst (pc := 196) 0 dX3_sentence_196 (by decide) ?_
      refine J_istore (pc := 197) dX3_sentence_197 (by decide) ?_
      refine J_sub (A := [some (.ref 72), some (.int c1), some (.int c2), some (.int v14), some (.int 0)]) ⟨rfl, ⟨rfl, ⟨rfl, ⟨rfl, ⟨rfl, trivial⟩⟩⟩⟩⟩ (t_m_sentence_L199 G c1 c2 v14 _ ?_ FU 0 M20)
      · intro v20 M26
        refine J_aload_n (pc := 248) dX3_sentence_248 rfl ?_
        refine J_iload (pc := 249) dX3_sentence_249 rfl ?_
        refine J_i2l (pc := 251) dX3_sentence_251 ?_
        refine J_callV (pc := 252) (n := 1) (b := 72) (vs := [.long (Int32.toInt64 v20)]) (ci := 2) (fun l => C_m_tell l (Int32.toInt64 v20) M26) (lw_V q1455 q1457 qs87 q118 q1458) nmv_X3_tell rfl (by omega) (by decide) rfl (fun h => sh_k1 h 52 rfl) rfl (Nat.le_of_ble_eq_true rfl) dX3_sentence_252 (fun _ M27 => ?_)
        refine J_iload_n (pc := 255) dX3_sentence_255 rfl ?_
        refine J_aload_n (pc := 256) dX3_sentence_256 rfl ?_
        refine J_iload (pc := 257) dX3_sentence_257 rfl ?_
        refine J_iload_n (pc := 259) dX3_sentence_259 rfl ?_
        refine J_iload_n (pc := 260) dX3_sentence_260 rfl ?_
        refine J_callV (pc := 261) (n := 3) (b := 72) (vs := [.int v20, .int v14, .int c2]) (ci := 2) (fun l => C_m_tells l v20 v14 c2 M27) (lw_V q1537 q1539 qs97 q118 q1540) nmv_X3_tells rfl (by omega) (by decide) rfl (fun h => sh_k1 h 52 rfl) rfl (Nat.le_of_ble_eq_true rfl) dX3_sentence_261 (fun v21 M28 => ?_)
        refine J_iadd (pc := 264) dX3_sentence_264 ?_
        refine J_lt (β := Int32) (v := (v14 + v21)) (L := fun _ => _) (S := fun v22 => [.int v22]) (fun v22 => ?_)
        refine J_istore_n (pc := 265) dX3_sentence_265 (by decide) ?_
        refine J_goto (pc := 266) 191 dX3_sentence_266 rfl ?_
        exact J_sub (A := [some (.ref 72), some (.int c1), some (.int c2), some (.int v22), none]) ⟨rfl, ⟨rfl, ⟨rfl, ⟨rfl, trivial⟩⟩⟩⟩ (ih v22 M28)

def m_sentence (p1 : Int32) (M : PM) : Option (Int32 × PM) :=
    lt (M.si 72 13 0) fun M1 =>
    lt (M1.i 72 10) fun v1 =>
    lt (M1.si 72 10 0) fun M2 =>
    bd (m_isStation p1 M2) fun v2 M3 =>
    if v2 = 0 then (some ((-100), M3))
    else (m_sentence_L28 p1 v1 (fun (M7 : PM) =>
    if v1 = 0 then (some ((-1), M7))
    else (ck v1 13 <|
    lt (M7.si 90 (ix v1) 0) fun M8 =>
    lt (v1 - 1) fun v6 =>
    m_sentence_L82 p1 v1 (fun (M18 : PM) =>
    ck 0 13 <|
    if (M18.i 90 (ix 0)) < 100000000 then (lt (M18.si 72 12 0) fun M19 =>
    m_sentence_L191 p1 v1 (fun (M29 : PM) =>
    ck 0 13 <|
    some ((M29.i 90 (ix 0)), M29)) FU 0 M19)
    else (some ((-200), M18))) FU v6 M8)) (fun (v23 : Int32) (M30 : PM) =>
    some (((-1) - v23), M30)) FU 0 M3)

set_option maxHeartbeats 4000000 in
theorem t_m_sentence (G : JG) (p1 : Int32) (M : PM) : T_m_sentence G  M 0 (ent [.ref 72, .int p1] 5) [] (m_sentence p1 M) := by
  unfold m_sentence
  refine J_aload_n (pc := 0) dX3_sentence_0 rfl ?_
  refine J_iconst (pc := 1) 0 dX3_sentence_1 (by decide) ?_
  refine J_put (pc := 2) (a := 72) (v := .int 0) (M' := M.si 72 13 0) (c := 2) rfl in_X3 tyX3_ok fnX3 13 (by decide) q1120 rfl (Or.inl rfl) (fun h => sh_k1 h 52 rfl) (fun _ => rfl) (fun _ => rfl) ⟨⟨rfl, rfl⟩, rfl⟩ (fun _ hb => up2_same hb) (fun _ _ => rfl) (fun _ _ => rfl) (put_i (fun _ _ _ => rfl)) (fun h => Sh_si h) dX3_sentence_2 ?_
  refine J_ltM (fun M1 => ?_)
  refine J_aload_n (pc := 5) dX3_sentence_5 rfl ?_
  refine J_get (pc := 6) (c := 2) (.int (M1.i 72 10)) rfl in_X3 10 (by decide) q1117 rfl (fun h => sh_k1 h 52 rfl) (fun _ _ => rfl) dX3_sentence_6 ?_
  refine J_lt (β := Int32) (v := (M1.i 72 10)) (L := fun _ => _) (S := fun v1 => [.int v1]) (fun v1 => ?_)
  refine J_istore_n (pc := 9) dX3_sentence_9 (by decide) ?_
  refine J_aload_n (pc := 10) dX3_sentence_10 rfl ?_
  refine J_iconst (pc := 11) 0 dX3_sentence_11 (by decide) ?_
  refine J_put (pc := 12) (a := 72) (v := .int 0) (M' := M1.si 72 10 0) (c := 2) rfl in_X3 tyX3_ok fnX3 10 (by decide) q1117 rfl (Or.inl rfl) (fun h => sh_k1 h 52 rfl) (fun _ => rfl) (fun _ => rfl) ⟨⟨rfl, rfl⟩, rfl⟩ (fun _ hb => up2_same hb) (fun _ _ => rfl) (fun _ _ => rfl) (put_i (fun _ _ _ => rfl)) (fun h => Sh_si h) dX3_sentence_12 ?_
  refine J_ltM (fun M2 => ?_)
  refine J_aload_n (pc := 15) dX3_sentence_15 rfl ?_
  refine J_iload_n (pc := 16) dX3_sentence_16 rfl ?_
  refine J_callV (pc := 17) (n := 1) (b := 72) (vs := [.int p1]) (ci := 2) (fun l => C_m_isStation l p1 M2) (lw_V q1433 q1435 qs84 q118 q1436) nmv_X3_isStation rfl (by omega) (by decide) rfl (fun h => sh_k1 h 52 rfl) rfl (Nat.le_of_ble_eq_true rfl) dX3_sentence_17 (fun v2 M3 => ?_)
  refine J_if_ne (pc := 20) 26 dX3_sentence_20 rfl (fun h => if_neg h) (fun h => if_pos h) (fun _ => ?_) (fun _ => ?_)
  · refine J_iconst (pc := 26) 0 dX3_sentence_26 (by decide) ?_
    refine J_istore_n (pc := 27) dX3_sentence_27 (by decide) ?_
    refine J_sub (A := [some (.ref 72), some (.int p1), some (.int v1), some (.int 0), none]) ⟨rfl, ⟨rfl, ⟨rfl, ⟨rfl, trivial⟩⟩⟩⟩ (t_m_sentence_L28 G p1 v1 _ _ ?_ ?_ FU 0 M3)
    · intro M7
      refine J_iload_n (pc := 65) dX3_sentence_65 rfl ?_
      refine J_if_ne (pc := 66) 71 dX3_sentence_66 rfl (fun h => if_neg h) (fun h => if_pos h) (fun _ => ?_) (fun _ => ?_)
      · refine J_aload_n (pc := 71) dX3_sentence_71 rfl ?_
        refine J_get (pc := 72) (c := 2) (.ref 90) rfl in_X3 34 (by decide) q1141 rfl (fun h => sh_k1 h 52 rfl) (fun h _ => fv_ref (Or.inr ⟨_, rfl⟩) (sh_r h 66 rfl)) dX3_sentence_72 ?_
        refine J_iload_n (pc := 75) dX3_sentence_75 rfl ?_
        refine J_iconst (pc := 76) 0 dX3_sentence_76 (by decide) ?_
        refine J_ck (fun h2 => ?_)
        refine J_iast (pc := 77) (a := 90) (fun h => sh_a h 70 rfl h2) (fun h => Sh_si h) dX3_sentence_77 ?_
        refine J_ltM (fun M8 => ?_)
        refine J_iload_n (pc := 78) dX3_sentence_78 rfl ?_
        refine J_iconst (pc := 79) 1 dX3_sentence_79 (by decide) ?_
        refine J_isub (pc := 80) dX3_sentence_80 ?_
        refine J_lt (β := Int32) (v := (v1 - 1)) (L := fun _ => _) (S := fun v6 => [.int v6]) (fun v6 => ?_)
        refine J_istore_n (pc := 81) dX3_sentence_81 (by decide) ?_
        refine J_sub (A := [some (.ref 72), some (.int p1), some (.int v1), some (.int v6), none]) ⟨rfl, ⟨rfl, ⟨rfl, ⟨rfl, trivial⟩⟩⟩⟩ (t_m_sentence_L82 G p1 v1 _ ?_ FU v6 M8)
        · intro M18
          refine J_aload_n (pc := 168) dX3_sentence_168 rfl ?_
          refine J_get (pc := 169) (c := 2) (.ref 90) rfl in_X3 34 (by decide) q1141 rfl (fun h => sh_k1 h 52 rfl) (fun h _ => fv_ref (Or.inr ⟨_, rfl⟩) (sh_r h 66 rfl)) dX3_sentence_169 ?_
          refine J_iconst (pc := 172) 0 dX3_sentence_172 (by decide) ?_
          refine J_ck (fun h7 => ?_)
          refine J_iald (pc := 173) (a := 90) (fun h => sh_a h 70 rfl h7) dX3_sentence_173 ?_
          refine J_ldcw (pc := 174) 100000000 q1536 dX3_sentence_174 ?_
          refine J_icmp_lt (pc := 177) 184 dX3_sentence_177 rfl (fun h => if_pos h) (fun h => if_neg h) (fun _ => ?_) (fun _ => ?_)
          · refine J_aload_n (pc := 184) dX3_sentence_184 rfl ?_
            refine J_iconst (pc := 185) 0 dX3_sentence_185 (by decide) ?_
            refine J_put (pc := 186) (a := 72) (v := .int 0) (M' := M18.si 72 12 0) (c := 2) rfl in_X3 tyX3_ok fnX3 12 (by decide) q1119 rfl (Or.inl rfl) (fun h => sh_k1 h 52 rfl) (fun _ => rfl) (fun _ => rfl) ⟨⟨rfl, rfl⟩, rfl⟩ (fun _ hb => up2_same hb) (fun _ _ => rfl) (fun _ _ => rfl) (put_i (fun _ _ _ => rfl)) (fun h => Sh_si h) dX3_sentence_186 ?_
            refine J_ltM (fun M19 => ?_)
            refine J_iconst (pc := 189) 0 dX3_sentence_189 (by decide) ?_
            refine J_istore_n (pc := 190) dX3_sentence_190 (by decide) ?_
            refine J_sub (A := [some (.ref 72), some (.int p1), some (.int v1), some (.int 0), none]) ⟨rfl, ⟨rfl, ⟨rfl, ⟨rfl, trivial⟩⟩⟩⟩ (t_m_sentence_L191 G p1 v1 _ ?_ FU 0 M19)
            · intro M29
              refine J_aload_n (pc := 269) dX3_sentence_269 rfl ?_
              refine J_get (pc := 270) (c := 2) (.ref 90) rfl in_X3 34 (by decide) q1141 rfl (fun h => sh_k1 h 52 rfl) (fun h _ => fv_ref (Or.inr ⟨_, rfl⟩) (sh_r h 66 rfl)) dX3_sentence_270 ?_
              refine J_iconst (pc := 273) 0 dX3_sentence_273 (by decide) ?_
              refine J_ck (fun h10 => ?_)
              refine J_iald (pc := 274) (a := 90) (fun h => sh_a h 70 rfl h10) dX3_sentence_274 ?_
              exact J_iret (pc := 275) dX3_sentence_275
          · refine J_sipush (pc := 180) (-200) dX3_sentence_180 (by decide) ?_
            exact J_iret (pc := 183) dX3_sentence_183
      · refine J_iconst (pc := 69) (-1) dX3_sentence_69 (by decide) ?_
        exact J_iret (pc := 70) dX3_sentence_70
    · intro v23 M30
      refine J_iconst (pc := 55) (-1) dX3_sentence_55 (by decide) ?_
      refine J_iload_n (pc := 56) dX3_sentence_56 rfl ?_
      refine J_isub (pc := 57) dX3_sentence_57 ?_
      exact J_iret (pc := 58) dX3_sentence_58
  · refine J_bipush (pc := 23) (-100) dX3_sentence_23 (by decide) ?_
    exact J_iret (pc := 25) dX3_sentence_25

theorem C_m_sentence (l : Launch) (p1 : Int32) (M : PM) : Ctr l Sh yX3_sentence cX3_sentence 5 (some .int) 143 rvI [.ref 72, .int p1] M (m_sentence p1 M) := Ctr.of (by decide +kernel) (Nat.le_of_ble_eq_true rfl) (fun G => t_m_sentence G p1 M)

abbrev T_m_when (G : JG) (M : PM) (pc : Nat) (L : List (Option Value)) (S : List Value) (o : Option (Int32 × PM)) : Prop := JJ G cX3_when yX3_when 5 143 (some .int) Sh (finR G Sh rvI) M pc L S o
def m_when_L28 (c1 : Int32) (c2 : Int32) (k78 : Int32 → PM → Option (Int32 × PM)) : Nat → Int32 → Int32 → PM → Option (Int32 × PM)
  | 0, _, _, _ => none
  | n + 1, v3, v4, M4 =>
    if 24 ≤ v4 then (k78 v3 M4)
    else (ck 12 44 <|
    bd (m_tollOf c1 c2 ((M4.i 73 (ix 12)) + v4) M4) fun v5 M5 =>
    ck 12 44 <|
    bd (m_tollOf c1 c2 ((M5.i 73 (ix 12)) + v3) M5) fun v6 M6 =>
    jn (fun (v7 : Int32) (M7 : PM) =>
    lt (v4 + 1) fun v8 =>
    m_when_L28 c1 c2 k78 n v7 v8 M7) fun j1 =>
    if v6 ≤ v5 then (j1 v3 M6)
    else (j1 v4 M6))

set_option maxHeartbeats 4000000 in
theorem t_m_when_L28 (G : JG) (c1 : Int32) (c2 : Int32) (k78 : Int32 → PM → Option (Int32 × PM)) (hk78 : ∀ z3 Me, T_m_when G  Me 78 [some (.ref 72), some (.int c1), some (.int c2), some (.int z3), none] [] (k78 z3 Me)) : ∀ (n : Nat) (v3 : Int32) (v4 : Int32) (M4 : PM), T_m_when G  M4 28 [some (.ref 72), some (.int c1), some (.int c2), some (.int v3), some (.int v4)] [] (m_when_L28 c1 c2 k78 n v3 v4 M4) := by
  intro n
  induction n with
  | zero =>
    intro v3 v4 M4
    exact J_none
  | succ n ih =>
    intro v3 v4 M4
    rw [m_when_L28]
    refine J_iload (pc := 28) dX3_when_28 rfl ?_
    refine J_bipush (pc := 30) 24 dX3_when_30 (by decide) ?_
    refine J_icmp_ge (pc := 32) 78 dX3_when_32 rfl (fun h => if_pos h) (fun h => if_neg h) (fun _ => ?_) (fun _ => ?_)
    · exact J_sub (A := [some (.ref 72), some (.int c1), some (.int c2), some (.int v3), none]) ⟨rfl, ⟨rfl, ⟨rfl, ⟨rfl, trivial⟩⟩⟩⟩ (hk78 v3 M4)
    · refine J_aload_n (pc := 35) dX3_when_35 rfl ?_
      refine J_iload_n (pc := 36) dX3_when_36 rfl ?_
      refine J_iload_n (pc := 37) dX3_when_37 rfl ?_
      refine J_aload_n (pc := 38) dX3_when_38 rfl ?_
      refine J_get (pc := 39) (c := 2) (.ref 73) rfl in_X3 0 (by decide) q1107 rfl (fun h => sh_k1 h 52 rfl) (fun h _ => fv_ref (Or.inr ⟨_, rfl⟩) (sh_r h 51 rfl)) dX3_when_39 ?_
      refine J_bipush (pc := 42) 12 dX3_when_42 (by decide) ?_
      refine J_ck (fun h1 => ?_)
      refine J_iald (pc := 44) (a := 73) (fun h => sh_a h 53 rfl h1) dX3_when_44 ?_
      refine J_iload (pc := 45) dX3_when_45 rfl ?_
      refine J_iadd (pc := 47) dX3_when_47 ?_
      refine J_callV (pc := 48) (n := 3) (b := 72) (vs := [.int c1, .int c2, .int ((M4.i 73 (ix 12)) + v4)]) (ci := 2) (fun l => C_m_tollOf l c1 c2 ((M4.i 73 (ix 12)) + v4) M4) (lw_V q1451 q1453 qs86 q118 q1454) nmv_X3_tollOf rfl (by omega) (by decide) rfl (fun h => sh_k1 h 52 rfl) rfl (Nat.le_of_ble_eq_true rfl) dX3_when_48 (fun v5 M5 => ?_)
      refine J_aload_n (pc := 51) dX3_when_51 rfl ?_
      refine J_iload_n (pc := 52) dX3_when_52 rfl ?_
      refine J_iload_n (pc := 53) dX3_when_53 rfl ?_
      refine J_aload_n (pc := 54) dX3_when_54 rfl ?_
      refine J_get (pc := 55) (c := 2) (.ref 73) rfl in_X3 0 (by decide) q1107 rfl (fun h => sh_k1 h 52 rfl) (fun h _ => fv_ref (Or.inr ⟨_, rfl⟩) (sh_r h 51 rfl)) dX3_when_55 ?_
      refine J_bipush (pc := 58) 12 dX3_when_58 (by decide) ?_
      refine J_ck (fun h2 => ?_)
      refine J_iald (pc := 60) (a := 73) (fun h => sh_a h 53 rfl h2) dX3_when_60 ?_
      refine J_iload_n (pc := 61) dX3_when_61 rfl ?_
      refine J_iadd (pc := 62) dX3_when_62 ?_
      refine J_callV (pc := 63) (n := 3) (b := 72) (vs := [.int c1, .int c2, .int ((M5.i 73 (ix 12)) + v3)]) (ci := 2) (fun l => C_m_tollOf l c1 c2 ((M5.i 73 (ix 12)) + v3) M5) (lw_V q1451 q1453 qs86 q118 q1454) nmv_X3_tollOf rfl (by omega) (by decide) rfl (fun h => sh_k1 h 52 rfl) rfl (Nat.le_of_ble_eq_true rfl) dX3_when_63 (fun v6 M6 => ?_)
      refine J_jn (P := fun J => ∀ (v7 : Int32) (M7 : PM), T_m_when G  M7 72 [some (.ref 72), some (.int c1), some (.int c2), some (.int v7), some (.int v4)] [] (J v7 M7)) (fun v7 M7 => ?_) (fun j1 hj1 => ?_)
      · refine J_iincL (pc := 72) (n := 1) (by decide) dX3_when_72 rfl (by decide) (fun v8 => ?_)
        refine J_goto (pc := 75) 28 dX3_when_75 rfl ?_
        exact J_sub (A := [some (.ref 72), some (.int c1), some (.int c2), some (.int v7), some (.int v8)]) ⟨rfl, ⟨rfl, ⟨rfl, ⟨rfl, ⟨rfl, trivial⟩⟩⟩⟩⟩ (ih v7 v8 M7)
      refine J_icmp_ge (pc := 66) 72 dX3_when_66 rfl (fun h => if_pos h) (fun h => if_neg h) (fun _ => ?_) (fun _ => ?_)
      · exact J_sub (A := [some (.ref 72), some (.int c1), some (.int c2), some (.int v3), some (.int v4)]) ⟨rfl, ⟨rfl, ⟨rfl, ⟨rfl, ⟨rfl, trivial⟩⟩⟩⟩⟩ (hj1 v3 M6)
      · refine J_iload (pc := 69) dX3_when_69 rfl ?_
        refine J_istore_n (pc := 71) dX3_when_71 (by decide) ?_
        exact J_sub (A := [some (.ref 72), some (.int c1), some (.int c2), some (.int v4), some (.int v4)]) ⟨rfl, ⟨rfl, ⟨rfl, ⟨rfl, ⟨rfl, trivial⟩⟩⟩⟩⟩ (hj1 v4 M6)

def m_when (p1 : Int32) (p2 : Int32) (M : PM) : Option (Int32 × PM) :=
    lt (M.si 72 13 0) fun M1 =>
    bd (m_isWord p1 M1) fun v1 M2 =>
    if v1 = 0 then (some ((-1), M2))
    else (bd (m_isStation p2 M2) fun v2 M3 =>
    if v2 = 0 then (some ((-1), M3))
    else (m_when_L28 p1 p2 (fun (v9 : Int32) (M8 : PM) =>
    lt (M8.si 72 12 0) fun M9 =>
    ck 12 44 <|
    bd (m_tollOf p1 p2 ((M9.i 73 (ix 12)) + v9) M9) fun v10 M10 =>
    bd (m_tell (Int32.toInt64 v10) M10) fun _ M11 =>
    bd (m_tollNow p1 p2 M11) fun v11 M12 =>
    bd (m_tell (Int32.toInt64 v11) M12) fun _ M13 =>
    some (v9, M13)) FU 0 1 M3))

set_option maxHeartbeats 4000000 in
theorem t_m_when (G : JG) (p1 : Int32) (p2 : Int32) (M : PM) : T_m_when G  M 0 (ent [.ref 72, .int p1, .int p2] 5) [] (m_when p1 p2 M) := by
  unfold m_when
  refine J_aload_n (pc := 0) dX3_when_0 rfl ?_
  refine J_iconst (pc := 1) 0 dX3_when_1 (by decide) ?_
  refine J_put (pc := 2) (a := 72) (v := .int 0) (M' := M.si 72 13 0) (c := 2) rfl in_X3 tyX3_ok fnX3 13 (by decide) q1120 rfl (Or.inl rfl) (fun h => sh_k1 h 52 rfl) (fun _ => rfl) (fun _ => rfl) ⟨⟨rfl, rfl⟩, rfl⟩ (fun _ hb => up2_same hb) (fun _ _ => rfl) (fun _ _ => rfl) (put_i (fun _ _ _ => rfl)) (fun h => Sh_si h) dX3_when_2 ?_
  refine J_ltM (fun M1 => ?_)
  refine J_aload_n (pc := 5) dX3_when_5 rfl ?_
  refine J_iload_n (pc := 6) dX3_when_6 rfl ?_
  refine J_callV (pc := 7) (n := 1) (b := 72) (vs := [.int p1]) (ci := 2) (fun l => C_m_isWord l p1 M1) (lw_V q1383 q1385 qs76 q118 q1386) nmv_X3_isWord rfl (by omega) (by decide) rfl (fun h => sh_k1 h 52 rfl) rfl (Nat.le_of_ble_eq_true rfl) dX3_when_7 (fun v1 M2 => ?_)
  refine J_if_eq (pc := 10) 21 dX3_when_10 rfl (fun h => if_pos h) (fun h => if_neg h) (fun _ => ?_) (fun _ => ?_)
  · refine J_iconst (pc := 21) (-1) dX3_when_21 (by decide) ?_
    exact J_iret (pc := 22) dX3_when_22
  · refine J_aload_n (pc := 13) dX3_when_13 rfl ?_
    refine J_iload_n (pc := 14) dX3_when_14 rfl ?_
    refine J_callV (pc := 15) (n := 1) (b := 72) (vs := [.int p2]) (ci := 2) (fun l => C_m_isStation l p2 M2) (lw_V q1433 q1435 qs84 q118 q1436) nmv_X3_isStation rfl (by omega) (by decide) rfl (fun h => sh_k1 h 52 rfl) rfl (Nat.le_of_ble_eq_true rfl) dX3_when_15 (fun v2 M3 => ?_)
    refine J_if_ne (pc := 18) 23 dX3_when_18 rfl (fun h => if_neg h) (fun h => if_pos h) (fun _ => ?_) (fun _ => ?_)
    · refine J_iconst (pc := 23) 0 dX3_when_23 (by decide) ?_
      refine J_istore_n (pc := 24) dX3_when_24 (by decide) ?_
      refine J_iconst (pc := 25) 1 dX3_when_25 (by decide) ?_
      refine J_istore (pc := 26) dX3_when_26 (by decide) ?_
      refine J_sub (A := [some (.ref 72), some (.int p1), some (.int p2), some (.int 0), some (.int 1)]) ⟨rfl, ⟨rfl, ⟨rfl, ⟨rfl, ⟨rfl, trivial⟩⟩⟩⟩⟩ (t_m_when_L28 G p1 p2 _ ?_ FU 0 1 M3)
      · intro v9 M8
        refine J_aload_n (pc := 78) dX3_when_78 rfl ?_
        refine J_iconst (pc := 79) 0 dX3_when_79 (by decide) ?_
        refine J_put (pc := 80) (a := 72) (v := .int 0) (M' := M8.si 72 12 0) (c := 2) rfl in_X3 tyX3_ok fnX3 12 (by decide) q1119 rfl (Or.inl rfl) (fun h => sh_k1 h 52 rfl) (fun _ => rfl) (fun _ => rfl) ⟨⟨rfl, rfl⟩, rfl⟩ (fun _ hb => up2_same hb) (fun _ _ => rfl) (fun _ _ => rfl) (put_i (fun _ _ _ => rfl)) (fun h => Sh_si h) dX3_when_80 ?_
        refine J_ltM (fun M9 => ?_)
        refine J_aload_n (pc := 83) dX3_when_83 rfl ?_
        refine J_aload_n (pc := 84) dX3_when_84 rfl ?_
        refine J_iload_n (pc := 85) dX3_when_85 rfl ?_
        refine J_iload_n (pc := 86) dX3_when_86 rfl ?_
        refine J_aload_n (pc := 87) dX3_when_87 rfl ?_
        refine J_get (pc := 88) (c := 2) (.ref 73) rfl in_X3 0 (by decide) q1107 rfl (fun h => sh_k1 h 52 rfl) (fun h _ => fv_ref (Or.inr ⟨_, rfl⟩) (sh_r h 51 rfl)) dX3_when_88 ?_
        refine J_bipush (pc := 91) 12 dX3_when_91 (by decide) ?_
        refine J_ck (fun h3 => ?_)
        refine J_iald (pc := 93) (a := 73) (fun h => sh_a h 53 rfl h3) dX3_when_93 ?_
        refine J_iload_n (pc := 94) dX3_when_94 rfl ?_
        refine J_iadd (pc := 95) dX3_when_95 ?_
        refine J_callV (pc := 96) (n := 3) (b := 72) (vs := [.int p1, .int p2, .int ((M9.i 73 (ix 12)) + v9)]) (ci := 2) (fun l => C_m_tollOf l p1 p2 ((M9.i 73 (ix 12)) + v9) M9) (lw_V q1451 q1453 qs86 q118 q1454) nmv_X3_tollOf rfl (by omega) (by decide) rfl (fun h => sh_k1 h 52 rfl) rfl (Nat.le_of_ble_eq_true rfl) dX3_when_96 (fun v10 M10 => ?_)
        refine J_i2l (pc := 99) dX3_when_99 ?_
        refine J_callV (pc := 100) (n := 1) (b := 72) (vs := [.long (Int32.toInt64 v10)]) (ci := 2) (fun l => C_m_tell l (Int32.toInt64 v10) M10) (lw_V q1455 q1457 qs87 q118 q1458) nmv_X3_tell rfl (by omega) (by decide) rfl (fun h => sh_k1 h 52 rfl) rfl (Nat.le_of_ble_eq_true rfl) dX3_when_100 (fun _ M11 => ?_)
        refine J_aload_n (pc := 103) dX3_when_103 rfl ?_
        refine J_aload_n (pc := 104) dX3_when_104 rfl ?_
        refine J_iload_n (pc := 105) dX3_when_105 rfl ?_
        refine J_iload_n (pc := 106) dX3_when_106 rfl ?_
        refine J_callV (pc := 107) (n := 2) (b := 72) (vs := [.int p1, .int p2]) (ci := 2) (fun l => C_m_tollNow l p1 p2 M11) (lw_V q1447 q1449 qs85 q118 q1450) nmv_X3_tollNow rfl (by omega) (by decide) rfl (fun h => sh_k1 h 52 rfl) rfl (Nat.le_of_ble_eq_true rfl) dX3_when_107 (fun v11 M12 => ?_)
        refine J_i2l (pc := 110) dX3_when_110 ?_
        refine J_callV (pc := 111) (n := 1) (b := 72) (vs := [.long (Int32.toInt64 v11)]) (ci := 2) (fun l => C_m_tell l (Int32.toInt64 v11) M12) (lw_V q1455 q1457 qs87 q118 q1458) nmv_X3_tell rfl (by omega) (by decide) rfl (fun h => sh_k1 h 52 rfl) rfl (Nat.le_of_ble_eq_true rfl) dX3_when_111 (fun _ M13 => ?_)
        refine J_iload_n (pc := 114) dX3_when_114 rfl ?_
        exact J_iret (pc := 115) dX3_when_115
    · refine J_iconst (pc := 21) (-1) dX3_when_21 (by decide) ?_
      exact J_iret (pc := 22) dX3_when_22

theorem C_m_when (l : Launch) (p1 : Int32) (p2 : Int32) (M : PM) : Ctr l Sh yX3_when cX3_when 5 (some .int) 143 rvI [.ref 72, .int p1, .int p2] M (m_when p1 p2 M) := Ctr.of (by decide +kernel) (Nat.le_of_ble_eq_true rfl) (fun G => t_m_when G p1 p2 M)

abbrev T_m_shortest (G : JG) (M : PM) (pc : Nat) (L : List (Option Value)) (S : List Value) (o : Option (Int32 × PM)) : Prop := JJ G cX3_shortest yX3_shortest 6 143 (some .int) Sh (finR G Sh rvI) M pc L S o
def m_shortest_L39 (c1 : Int32) (c2 : Int32) (c3 : Int32) (k139 : Int32 → PM → Option (Int32 × PM)) : Nat → Int32 → Int32 → PM → Option (Int32 × PM)
  | 0, _, _, _ => none
  | n + 1, v4, v5, M5 =>
    if (M5.i 72 2) ≤ v5 then (k139 v4 M5)
    else (bd (m_means v5 c1 M5) fun v6 M6 =>
    jn (fun (v7 : Int32) (M7 : PM) =>
    lt (v5 + 1) fun v8 =>
    m_shortest_L39 c1 c2 c3 k139 n v7 v8 M7) fun j1 =>
    if v6 = 0 then (j1 v4 M6)
    else (bd (m_tollNow v5 c2 M6) fun v9 M8 =>
    if v9 ≤ c3 then (jn (fun (M9 : PM) =>
    j1 v5 M9) fun j2 =>
    if v4 = (-1) then (j2 M8)
    else (ck v5 10 <|
    ck v4 10 <|
    if (M8.i 75 (ix v5)) < (M8.i 75 (ix v4)) then (j2 M8)
    else (ck v5 10 <|
    ck v4 10 <|
    if (M8.i 75 (ix v5)) = (M8.i 75 (ix v4)) then (bd (m_tollNow v5 c2 M8) fun v10 M10 =>
    bd (m_tollNow v4 c2 M10) fun v11 M11 =>
    if v11 ≤ v10 then (j1 v4 M11)
    else (j2 M11))
    else (j1 v4 M8))))
    else (j1 v4 M8)))

set_option maxHeartbeats 4000000 in
theorem t_m_shortest_L39 (G : JG) (c1 : Int32) (c2 : Int32) (c3 : Int32) (k139 : Int32 → PM → Option (Int32 × PM)) (hk139 : ∀ z4 Me, T_m_shortest G  Me 139 [some (.ref 72), none, some (.int c2), none, some (.int z4), none] [] (k139 z4 Me)) : ∀ (n : Nat) (v4 : Int32) (v5 : Int32) (M5 : PM), T_m_shortest G  M5 39 [some (.ref 72), some (.int c1), some (.int c2), some (.int c3), some (.int v4), some (.int v5)] [] (m_shortest_L39 c1 c2 c3 k139 n v4 v5 M5) := by
  intro n
  induction n with
  | zero =>
    intro v4 v5 M5
    exact J_none
  | succ n ih =>
    intro v4 v5 M5
    rw [m_shortest_L39]
    refine J_iload (pc := 39) dX3_shortest_39 rfl ?_
    refine J_aload_n (pc := 41) dX3_shortest_41 rfl ?_
    refine J_get (pc := 42) (c := 2) (.int (M5.i 72 2)) rfl in_X3 2 (by decide) q1109 rfl (fun h => sh_k1 h 52 rfl) (fun _ _ => rfl) dX3_shortest_42 ?_
    refine J_icmp_ge (pc := 45) 139 dX3_shortest_45 rfl (fun h => if_pos h) (fun h => if_neg h) (fun _ => ?_) (fun _ => ?_)
    · exact J_sub (A := [some (.ref 72), none, some (.int c2), none, some (.int v4), none]) ⟨rfl, ⟨rfl, ⟨rfl, trivial⟩⟩⟩ (hk139 v4 M5)
    · refine J_aload_n (pc := 48) dX3_shortest_48 rfl ?_
      refine J_iload (pc := 49) dX3_shortest_49 rfl ?_
      refine J_iload_n (pc := 51) dX3_shortest_51 rfl ?_
      refine J_callV (pc := 52) (n := 2) (b := 72) (vs := [.int v5, .int c1]) (ci := 2) (fun l => C_m_means l v5 c1 M5) (lw_V q1493 q1495 qs92 q118 q1496) nmv_X3_means rfl (by omega) (by decide) rfl (fun h => sh_k1 h 52 rfl) rfl (Nat.le_of_ble_eq_true rfl) dX3_shortest_52 (fun v6 M6 => ?_)
      refine J_jn (P := fun J => ∀ (v7 : Int32) (M7 : PM), T_m_shortest G  M7 133 [some (.ref 72), some (.int c1), some (.int c2), some (.int c3), some (.int v7), some (.int v5)] [] (J v7 M7)) (fun v7 M7 => ?_) (fun j1 hj1 => ?_)
      · refine J_iincL (pc := 133) (n := 1) (by decide) dX3_shortest_133 rfl (by decide) (fun v8 => ?_)
        refine J_goto (pc := 136) 39 dX3_shortest_136 rfl ?_
        exact J_sub (A := [some (.ref 72), some (.int c1), some (.int c2), some (.int c3), some (.int v7), some (.int v8)]) ⟨rfl, ⟨rfl, ⟨rfl, ⟨rfl, ⟨rfl, ⟨rfl, trivial⟩⟩⟩⟩⟩⟩ (ih v7 v8 M7)
      refine J_if_eq (pc := 55) 133 dX3_shortest_55 rfl (fun h => if_pos h) (fun h => if_neg h) (fun _ => ?_) (fun _ => ?_)
      · exact J_sub (A := [some (.ref 72), some (.int c1), some (.int c2), some (.int c3), some (.int v4), some (.int v5)]) ⟨rfl, ⟨rfl, ⟨rfl, ⟨rfl, ⟨rfl, ⟨rfl, trivial⟩⟩⟩⟩⟩⟩ (hj1 v4 M6)
      · refine J_aload_n (pc := 58) dX3_shortest_58 rfl ?_
        refine J_iload (pc := 59) dX3_shortest_59 rfl ?_
        refine J_iload_n (pc := 61) dX3_shortest_61 rfl ?_
        refine J_callV (pc := 62) (n := 2) (b := 72) (vs := [.int v5, .int c2]) (ci := 2) (fun l => C_m_tollNow l v5 c2 M6) (lw_V q1447 q1449 qs85 q118 q1450) nmv_X3_tollNow rfl (by omega) (by decide) rfl (fun h => sh_k1 h 52 rfl) rfl (Nat.le_of_ble_eq_true rfl) dX3_shortest_62 (fun v9 M8 => ?_)
        refine J_iload_n (pc := 65) dX3_shortest_65 rfl ?_
        refine J_icmp_le (pc := 66) 72 dX3_shortest_66 rfl (fun h => if_pos h) (fun h => if_neg h) (fun _ => ?_) (fun _ => ?_)
        · refine J_iload (pc := 72) dX3_shortest_72 rfl ?_
          refine J_iconst (pc := 74) (-1) dX3_shortest_74 (by decide) ?_
          refine J_jn (P := fun J => ∀ (M9 : PM), T_m_shortest G  M9 129 [some (.ref 72), some (.int c1), some (.int c2), some (.int c3), none, some (.int v5)] [] (J M9)) (fun M9 => ?_) (fun j2 hj2 => ?_)
          · refine J_iload (pc := 129) dX3_shortest_129 rfl ?_
            refine J_istore (pc := 131) dX3_shortest_131 (by decide) ?_
            exact J_sub (A := [some (.ref 72), some (.int c1), some (.int c2), some (.int c3), some (.int v5), some (.int v5)]) ⟨rfl, ⟨rfl, ⟨rfl, ⟨rfl, ⟨rfl, ⟨rfl, trivial⟩⟩⟩⟩⟩⟩ (hj1 v5 M9)
          refine J_icmp_eq (pc := 75) 129 dX3_shortest_75 rfl (fun h => if_pos h) (fun h => if_neg h) (fun _ => ?_) (fun _ => ?_)
          · exact J_sub (A := [some (.ref 72), some (.int c1), some (.int c2), some (.int c3), none, some (.int v5)]) ⟨rfl, ⟨rfl, ⟨rfl, ⟨rfl, ⟨rfl, trivial⟩⟩⟩⟩⟩ (hj2 M8)
          · refine J_aload_n (pc := 78) dX3_shortest_78 rfl ?_
            refine J_get (pc := 79) (c := 2) (.ref 75) rfl in_X3 4 (by decide) q1111 rfl (fun h => sh_k1 h 52 rfl) (fun h _ => fv_ref (Or.inr ⟨_, rfl⟩) (sh_r h 53 rfl)) dX3_shortest_79 ?_
            refine J_iload (pc := 82) dX3_shortest_82 rfl ?_
            refine J_ck (fun h1 => ?_)
            refine J_iald (pc := 84) (a := 75) (fun h => sh_a h 55 rfl h1) dX3_shortest_84 ?_
            refine J_aload_n (pc := 85) dX3_shortest_85 rfl ?_
            refine J_get (pc := 86) (c := 2) (.ref 75) rfl in_X3 4 (by decide) q1111 rfl (fun h => sh_k1 h 52 rfl) (fun h _ => fv_ref (Or.inr ⟨_, rfl⟩) (sh_r h 53 rfl)) dX3_shortest_86 ?_
            refine J_iload (pc := 89) dX3_shortest_89 rfl ?_
            refine J_ck (fun h2 => ?_)
            refine J_iald (pc := 91) (a := 75) (fun h => sh_a h 55 rfl h2) dX3_shortest_91 ?_
            refine J_icmp_lt (pc := 92) 129 dX3_shortest_92 rfl (fun h => if_pos h) (fun h => if_neg h) (fun _ => ?_) (fun _ => ?_)
            · exact J_sub (A := [some (.ref 72), some (.int c1), some (.int c2), some (.int c3), none, some (.int v5)]) ⟨rfl, ⟨rfl, ⟨rfl, ⟨rfl, ⟨rfl, trivial⟩⟩⟩⟩⟩ (hj2 M8)
            · refine J_aload_n (pc := 95) dX3_shortest_95 rfl ?_
              refine J_get (pc := 96) (c := 2) (.ref 75) rfl in_X3 4 (by decide) q1111 rfl (fun h => sh_k1 h 52 rfl) (fun h _ => fv_ref (Or.inr ⟨_, rfl⟩) (sh_r h 53 rfl)) dX3_shortest_96 ?_
              refine J_iload (pc := 99) dX3_shortest_99 rfl ?_
              refine J_ck (fun h3 => ?_)
              refine J_iald (pc := 101) (a := 75) (fun h => sh_a h 55 rfl h3) dX3_shortest_101 ?_
              refine J_aload_n (pc := 102) dX3_shortest_102 rfl ?_
              refine J_get (pc := 103) (c := 2) (.ref 75) rfl in_X3 4 (by decide) q1111 rfl (fun h => sh_k1 h 52 rfl) (fun h _ => fv_ref (Or.inr ⟨_, rfl⟩) (sh_r h 53 rfl)) dX3_shortest_103 ?_
              refine J_iload (pc := 106) dX3_shortest_106 rfl ?_
              refine J_ck (fun h4 => ?_)
              refine J_iald (pc := 108) (a := 75) (fun h => sh_a h 55 rfl h4) dX3_shortest_108 ?_
              refine J_icmp_ne (pc := 109) 133 dX3_shortest_109 rfl (fun h => if_neg h) (fun h => if_pos h) (fun _ => ?_) (fun _ => ?_)
              · exact J_sub (A := [some (.ref 72), some (.int c1), some (.int c2), some (.int c3), some (.int v4), some (.int v5)]) ⟨rfl, ⟨rfl, ⟨rfl, ⟨rfl, ⟨rfl, ⟨rfl, trivial⟩⟩⟩⟩⟩⟩ (hj1 v4 M8)
              · refine J_aload_n (pc := 112) dX3_shortest_112 rfl ?_
                refine J_iload (pc := 113) dX3_shortest_113 rfl ?_
                refine J_iload_n (pc := 115) dX3_shortest_115 rfl ?_
                refine J_callV (pc := 116) (n := 2) (b := 72) (vs := [.int v5, .int c2]) (ci := 2) (fun l => C_m_tollNow l v5 c2 M8) (lw_V q1447 q1449 qs85 q118 q1450) nmv_X3_tollNow rfl (by omega) (by decide) rfl (fun h => sh_k1 h 52 rfl) rfl (Nat.le_of_ble_eq_true rfl) dX3_shortest_116 (fun v10 M10 => ?_)
                refine J_aload_n (pc := 119) dX3_shortest_119 rfl ?_
                refine J_iload (pc := 120) dX3_shortest_120 rfl ?_
                refine J_iload_n (pc := 122) dX3_shortest_122 rfl ?_
                refine J_callV (pc := 123) (n := 2) (b := 72) (vs := [.int v4, .int c2]) (ci := 2) (fun l => C_m_tollNow l v4 c2 M10) (lw_V q1447 q1449 qs85 q118 q1450) nmv_X3_tollNow rfl (by omega) (by decide) rfl (fun h => sh_k1 h 52 rfl) rfl (Nat.le_of_ble_eq_true rfl) dX3_shortest_123 (fun v11 M11 => ?_)
                refine J_icmp_ge (pc := 126) 133 dX3_shortest_126 rfl (fun h => if_pos h) (fun h => if_neg h) (fun _ => ?_) (fun _ => ?_)
                · exact J_sub (A := [some (.ref 72), some (.int c1), some (.int c2), some (.int c3), some (.int v4), some (.int v5)]) ⟨rfl, ⟨rfl, ⟨rfl, ⟨rfl, ⟨rfl, ⟨rfl, trivial⟩⟩⟩⟩⟩⟩ (hj1 v4 M11)
                · exact J_sub (A := [some (.ref 72), some (.int c1), some (.int c2), some (.int c3), none, some (.int v5)]) ⟨rfl, ⟨rfl, ⟨rfl, ⟨rfl, ⟨rfl, trivial⟩⟩⟩⟩⟩ (hj2 M11)
        · refine J_goto (pc := 69) 133 dX3_shortest_69 rfl ?_
          exact J_sub (A := [some (.ref 72), some (.int c1), some (.int c2), some (.int c3), some (.int v4), some (.int v5)]) ⟨rfl, ⟨rfl, ⟨rfl, ⟨rfl, ⟨rfl, ⟨rfl, trivial⟩⟩⟩⟩⟩⟩ (hj1 v4 M8)

def m_shortest (p1 : Int32) (p2 : Int32) (p3 : Int32) (M : PM) : Option (Int32 × PM) :=
    lt (M.si 72 13 0) fun M1 =>
    bd (m_isMeaning p1 M1) fun v1 M2 =>
    if v1 = 0 then (some ((-1), M2))
    else (bd (m_isStation p2 M2) fun v2 M3 =>
    if v2 = 0 then (some ((-1), M3))
    else (bd (m_in p3 0 9999 M3) fun v3 M4 =>
    if v3 = 0 then (some ((-1), M4))
    else (m_shortest_L39 p1 p2 p3 (fun (v12 : Int32) (M12 : PM) =>
    if v12 = (-1) then (some ((-2), M12))
    else (lt (M12.si 72 12 0) fun M13 =>
    ck v12 10 <|
    bd (m_tell (Int32.toInt64 (M13.i 75 (ix v12))) M13) fun _ M14 =>
    bd (m_tollNow v12 p2 M14) fun v13 M15 =>
    bd (m_tell (Int32.toInt64 v13) M15) fun _ M16 =>
    some (v12, M16))) FU (-1) 0 M4)))

set_option maxHeartbeats 4000000 in
theorem t_m_shortest (G : JG) (p1 : Int32) (p2 : Int32) (p3 : Int32) (M : PM) : T_m_shortest G  M 0 (ent [.ref 72, .int p1, .int p2, .int p3] 6) [] (m_shortest p1 p2 p3 M) := by
  unfold m_shortest
  refine J_aload_n (pc := 0) dX3_shortest_0 rfl ?_
  refine J_iconst (pc := 1) 0 dX3_shortest_1 (by decide) ?_
  refine J_put (pc := 2) (a := 72) (v := .int 0) (M' := M.si 72 13 0) (c := 2) rfl in_X3 tyX3_ok fnX3 13 (by decide) q1120 rfl (Or.inl rfl) (fun h => sh_k1 h 52 rfl) (fun _ => rfl) (fun _ => rfl) ⟨⟨rfl, rfl⟩, rfl⟩ (fun _ hb => up2_same hb) (fun _ _ => rfl) (fun _ _ => rfl) (put_i (fun _ _ _ => rfl)) (fun h => Sh_si h) dX3_shortest_2 ?_
  refine J_ltM (fun M1 => ?_)
  refine J_iload_n (pc := 5) dX3_shortest_5 rfl ?_
  refine J_callS (pc := 6) (n := 1) (vs := [.int p1]) (fun l => C_m_isMeaning l p1 M1) (lw_S q1529 q1530 q118 q1531) nmh_X3_isMeaning rfl (by omega) (by decide) rfl (Nat.le_of_ble_eq_true rfl) dX3_shortest_6 (fun v1 M2 => ?_)
  refine J_if_eq (pc := 9) 31 dX3_shortest_9 rfl (fun h => if_pos h) (fun h => if_neg h) (fun _ => ?_) (fun _ => ?_)
  · refine J_iconst (pc := 31) (-1) dX3_shortest_31 (by decide) ?_
    exact J_iret (pc := 32) dX3_shortest_32
  · refine J_aload_n (pc := 12) dX3_shortest_12 rfl ?_
    refine J_iload_n (pc := 13) dX3_shortest_13 rfl ?_
    refine J_callV (pc := 14) (n := 1) (b := 72) (vs := [.int p2]) (ci := 2) (fun l => C_m_isStation l p2 M2) (lw_V q1433 q1435 qs84 q118 q1436) nmv_X3_isStation rfl (by omega) (by decide) rfl (fun h => sh_k1 h 52 rfl) rfl (Nat.le_of_ble_eq_true rfl) dX3_shortest_14 (fun v2 M3 => ?_)
    refine J_if_eq (pc := 17) 31 dX3_shortest_17 rfl (fun h => if_pos h) (fun h => if_neg h) (fun _ => ?_) (fun _ => ?_)
    · refine J_iconst (pc := 31) (-1) dX3_shortest_31 (by decide) ?_
      exact J_iret (pc := 32) dX3_shortest_32
    · refine J_iload_n (pc := 20) dX3_shortest_20 rfl ?_
      refine J_iconst (pc := 21) 0 dX3_shortest_21 (by decide) ?_
      refine J_sipush (pc := 22) 9999 dX3_shortest_22 (by decide) ?_
      refine J_callS (pc := 25) (n := 3) (vs := [.int p3, .int 0, .int 9999]) (fun l => C_m_in l p3 0 9999 M3) (lw_S q1289 q1290 q118 q1291) nmh_X3_in rfl (by omega) (by decide) rfl (Nat.le_of_ble_eq_true rfl) dX3_shortest_25 (fun v3 M4 => ?_)
      refine J_if_ne (pc := 28) 33 dX3_shortest_28 rfl (fun h => if_neg h) (fun h => if_pos h) (fun _ => ?_) (fun _ => ?_)
      · refine J_iconst (pc := 33) (-1) dX3_shortest_33 (by decide) ?_
        refine J_istore (pc := 34) dX3_shortest_34 (by decide) ?_
        refine J_iconst (pc := 36) 0 dX3_shortest_36 (by decide) ?_
        refine J_istore (pc := 37) dX3_shortest_37 (by decide) ?_
        refine J_sub (A := [some (.ref 72), some (.int p1), some (.int p2), some (.int p3), some (.int (-1)), some (.int 0)]) ⟨rfl, ⟨rfl, ⟨rfl, ⟨rfl, ⟨rfl, ⟨rfl, trivial⟩⟩⟩⟩⟩⟩ (t_m_shortest_L39 G p1 p2 p3 _ ?_ FU (-1) 0 M4)
        · intro v12 M12
          refine J_iload (pc := 139) dX3_shortest_139 rfl ?_
          refine J_iconst (pc := 141) (-1) dX3_shortest_141 (by decide) ?_
          refine J_icmp_ne (pc := 142) 148 dX3_shortest_142 rfl (fun h => if_neg h) (fun h => if_pos h) (fun _ => ?_) (fun _ => ?_)
          · refine J_aload_n (pc := 148) dX3_shortest_148 rfl ?_
            refine J_iconst (pc := 149) 0 dX3_shortest_149 (by decide) ?_
            refine J_put (pc := 150) (a := 72) (v := .int 0) (M' := M12.si 72 12 0) (c := 2) rfl in_X3 tyX3_ok fnX3 12 (by decide) q1119 rfl (Or.inl rfl) (fun h => sh_k1 h 52 rfl) (fun _ => rfl) (fun _ => rfl) ⟨⟨rfl, rfl⟩, rfl⟩ (fun _ hb => up2_same hb) (fun _ _ => rfl) (fun _ _ => rfl) (put_i (fun _ _ _ => rfl)) (fun h => Sh_si h) dX3_shortest_150 ?_
            refine J_ltM (fun M13 => ?_)
            refine J_aload_n (pc := 153) dX3_shortest_153 rfl ?_
            refine J_aload_n (pc := 154) dX3_shortest_154 rfl ?_
            refine J_get (pc := 155) (c := 2) (.ref 75) rfl in_X3 4 (by decide) q1111 rfl (fun h => sh_k1 h 52 rfl) (fun h _ => fv_ref (Or.inr ⟨_, rfl⟩) (sh_r h 53 rfl)) dX3_shortest_155 ?_
            refine J_iload (pc := 158) dX3_shortest_158 rfl ?_
            refine J_ck (fun h5 => ?_)
            refine J_iald (pc := 160) (a := 75) (fun h => sh_a h 55 rfl h5) dX3_shortest_160 ?_
            refine J_i2l (pc := 161) dX3_shortest_161 ?_
            refine J_callV (pc := 162) (n := 1) (b := 72) (vs := [.long (Int32.toInt64 (M13.i 75 (ix v12)))]) (ci := 2) (fun l => C_m_tell l (Int32.toInt64 (M13.i 75 (ix v12))) M13) (lw_V q1455 q1457 qs87 q118 q1458) nmv_X3_tell rfl (by omega) (by decide) rfl (fun h => sh_k1 h 52 rfl) rfl (Nat.le_of_ble_eq_true rfl) dX3_shortest_162 (fun _ M14 => ?_)
            refine J_aload_n (pc := 165) dX3_shortest_165 rfl ?_
            refine J_aload_n (pc := 166) dX3_shortest_166 rfl ?_
            refine J_iload (pc := 167) dX3_shortest_167 rfl ?_
            refine J_iload_n (pc := 169) dX3_shortest_169 rfl ?_
            refine J_callV (pc := 170) (n := 2) (b := 72) (vs := [.int v12, .int p2]) (ci := 2) (fun l => C_m_tollNow l v12 p2 M14) (lw_V q1447 q1449 qs85 q118 q1450) nmv_X3_tollNow rfl (by omega) (by decide) rfl (fun h => sh_k1 h 52 rfl) rfl (Nat.le_of_ble_eq_true rfl) dX3_shortest_170 (fun v13 M15 => ?_)
            refine J_i2l (pc := 173) dX3_shortest_173 ?_
            refine J_callV (pc := 174) (n := 1) (b := 72) (vs := [.long (Int32.toInt64 v13)]) (ci := 2) (fun l => C_m_tell l (Int32.toInt64 v13) M15) (lw_V q1455 q1457 qs87 q118 q1458) nmv_X3_tell rfl (by omega) (by decide) rfl (fun h => sh_k1 h 52 rfl) rfl (Nat.le_of_ble_eq_true rfl) dX3_shortest_174 (fun _ M16 => ?_)
            refine J_iload (pc := 177) dX3_shortest_177 rfl ?_
            exact J_iret (pc := 179) dX3_shortest_179
          · refine J_bipush (pc := 145) (-2) dX3_shortest_145 (by decide) ?_
            exact J_iret (pc := 147) dX3_shortest_147
      · refine J_iconst (pc := 31) (-1) dX3_shortest_31 (by decide) ?_
        exact J_iret (pc := 32) dX3_shortest_32

theorem C_m_shortest (l : Launch) (p1 : Int32) (p2 : Int32) (p3 : Int32) (M : PM) : Ctr l Sh yX3_shortest cX3_shortest 6 (some .int) 143 rvI [.ref 72, .int p1, .int p2, .int p3] M (m_shortest p1 p2 p3 M) := Ctr.of (by decide +kernel) (Nat.le_of_ble_eq_true rfl) (fun G => t_m_shortest G p1 p2 p3 M)

abbrev T_m_changesOf (G : JG) (M : PM) (pc : Nat) (L : List (Option Value)) (S : List Value) (o : Option (Int32 × PM)) : Prop := JJ G cX3_changesOf yX3_changesOf 7 1 (some .int) Sh (finR G Sh rvI) M pc L S o
def m_changesOf_L15 (c1 : Int32) (c2 : Int32) (c3 : Int32) (c4 : Int32) (k152 : PM → Option (Int32 × PM)) : Nat → Int32 → PM → Option (Int32 × PM)
  | 0, _, _ => none
  | n + 1, v2, M2 =>
    if c2 < v2 then (k152 M2)
    else (jn (fun (M3 : PM) =>
    lt (v2 + 1) fun v3 =>
    m_changesOf_L15 c1 c2 c3 c4 k152 n v3 M3) fun j1 =>
    jn (fun (M4 : PM) =>
    ck ((c3 * c4) + v2) 49 <|
    lt (M4.si 93 (ix ((c3 * c4) + v2)) (c4 + v2)) fun M5 =>
    j1 M5) fun j2 =>
    if c4 = 0 then (j2 M2)
    else (if v2 = 0 then (j2 M2)
    else (ck (((c3 * (c4 - 1)) + v2) - 1) 49 <|
    ck (c4 - 1) 6 <|
    ck (v2 - 1) 6 <|
    lt (if (M2.i 91 (ix (c4 - 1))) = (M2.i 92 (ix (v2 - 1))) then 0 else 1 : Int32) fun v4 =>
    lt ((M2.i 93 (ix (((c3 * (c4 - 1)) + v2) - 1))) + v4) fun v5 =>
    ck ((c3 * (c4 - 1)) + v2) 49 <|
    ck (((c3 * c4) + v2) - 1) 49 <|
    ck ((c3 * c4) + v2) 49 <|
    lt (M2.si 93 (ix ((c3 * c4) + v2)) (imin v5 (1 + (imin (M2.i 93 (ix ((c3 * (c4 - 1)) + v2))) (M2.i 93 (ix (((c3 * c4) + v2) - 1))))))) fun M6 =>
    j1 M6)))

set_option maxHeartbeats 4000000 in
theorem t_m_changesOf_L15 (G : JG) (c1 : Int32) (c2 : Int32) (c3 : Int32) (c4 : Int32) (k152 : PM → Option (Int32 × PM)) (hk152 : ∀ Me, T_m_changesOf G  Me 152 [some (.ref 72), some (.int c1), some (.int c2), some (.int c3), some (.int c4), none, none] [] (k152 Me)) : ∀ (n : Nat) (v2 : Int32) (M2 : PM), T_m_changesOf G  M2 15 [some (.ref 72), some (.int c1), some (.int c2), some (.int c3), some (.int c4), some (.int v2), none] [] (m_changesOf_L15 c1 c2 c3 c4 k152 n v2 M2) := by
  intro n
  induction n with
  | zero =>
    intro v2 M2
    exact J_none
  | succ n ih =>
    intro v2 M2
    rw [m_changesOf_L15]
    refine J_iload (pc := 15) dX3_changesOf_15 rfl ?_
    refine J_iload_n (pc := 17) dX3_changesOf_17 rfl ?_
    refine J_icmp_gt (pc := 18) 152 dX3_changesOf_18 rfl (fun h => if_pos h) (fun h => if_neg h) (fun _ => ?_) (fun _ => ?_)
    · exact J_sub (A := [some (.ref 72), some (.int c1), some (.int c2), some (.int c3), some (.int c4), none, none]) ⟨rfl, ⟨rfl, ⟨rfl, ⟨rfl, ⟨rfl, trivial⟩⟩⟩⟩⟩ (hk152 M2)
    · refine J_iload (pc := 21) dX3_changesOf_21 rfl ?_
      refine J_jn (P := fun J => ∀ (M3 : PM), T_m_changesOf G  M3 146 [some (.ref 72), some (.int c1), some (.int c2), some (.int c3), some (.int c4), some (.int v2), none] [] (J M3)) (fun M3 => ?_) (fun j1 hj1 => ?_)
      · refine J_iincL (pc := 146) (n := 1) (by decide) dX3_changesOf_146 rfl (by decide) (fun v3 => ?_)
        refine J_goto (pc := 149) 15 dX3_changesOf_149 rfl ?_
        exact J_sub (A := [some (.ref 72), some (.int c1), some (.int c2), some (.int c3), some (.int c4), some (.int v3), none]) ⟨rfl, ⟨rfl, ⟨rfl, ⟨rfl, ⟨rfl, ⟨rfl, trivial⟩⟩⟩⟩⟩⟩ (ih v3 M3)
      refine J_jn (P := fun J => ∀ (M4 : PM), T_m_changesOf G  M4 31 [some (.ref 72), some (.int c1), some (.int c2), some (.int c3), some (.int c4), some (.int v2), none] [] (J M4)) (fun M4 => ?_) (fun j2 hj2 => ?_)
      · refine J_aload_n (pc := 31) dX3_changesOf_31 rfl ?_
        refine J_get (pc := 32) (c := 2) (.ref 93) rfl in_X3 37 (by decide) q1144 rfl (fun h => sh_k1 h 52 rfl) (fun h _ => fv_ref (Or.inr ⟨_, rfl⟩) (sh_r h 69 rfl)) dX3_changesOf_32 ?_
        refine J_iload_n (pc := 35) dX3_changesOf_35 rfl ?_
        refine J_iload (pc := 36) dX3_changesOf_36 rfl ?_
        refine J_imul (pc := 38) dX3_changesOf_38 ?_
        refine J_iload (pc := 39) dX3_changesOf_39 rfl ?_
        refine J_iadd (pc := 41) dX3_changesOf_41 ?_
        refine J_iload (pc := 42) dX3_changesOf_42 rfl ?_
        refine J_iload (pc := 44) dX3_changesOf_44 rfl ?_
        refine J_iadd (pc := 46) dX3_changesOf_46 ?_
        refine J_ck (fun h1 => ?_)
        refine J_iast (pc := 47) (a := 93) (fun h => sh_a h 73 rfl h1) (fun h => Sh_si h) dX3_changesOf_47 ?_
        refine J_ltM (fun M5 => ?_)
        refine J_goto (pc := 48) 146 dX3_changesOf_48 rfl ?_
        exact J_sub (A := [some (.ref 72), some (.int c1), some (.int c2), some (.int c3), some (.int c4), some (.int v2), none]) ⟨rfl, ⟨rfl, ⟨rfl, ⟨rfl, ⟨rfl, ⟨rfl, trivial⟩⟩⟩⟩⟩⟩ (hj1 M5)
      refine J_if_eq (pc := 23) 31 dX3_changesOf_23 rfl (fun h => if_pos h) (fun h => if_neg h) (fun _ => ?_) (fun _ => ?_)
      · exact J_sub (A := [some (.ref 72), some (.int c1), some (.int c2), some (.int c3), some (.int c4), some (.int v2), none]) ⟨rfl, ⟨rfl, ⟨rfl, ⟨rfl, ⟨rfl, ⟨rfl, trivial⟩⟩⟩⟩⟩⟩ (hj2 M2)
      · refine J_iload (pc := 26) dX3_changesOf_26 rfl ?_
        refine J_if_ne (pc := 28) 51 dX3_changesOf_28 rfl (fun h => if_neg h) (fun h => if_pos h) (fun _ => ?_) (fun _ => ?_)
        · refine J_aload_n (pc := 51) dX3_changesOf_51 rfl ?_
          refine J_get (pc := 52) (c := 2) (.ref 93) rfl in_X3 37 (by decide) q1144 rfl (fun h => sh_k1 h 52 rfl) (fun h _ => fv_ref (Or.inr ⟨_, rfl⟩) (sh_r h 69 rfl)) dX3_changesOf_52 ?_
          refine J_iload_n (pc := 55) dX3_changesOf_55 rfl ?_
          refine J_iload (pc := 56) dX3_changesOf_56 rfl ?_
          refine J_iconst (pc := 58) 1 dX3_changesOf_58 (by decide) ?_
          refine J_isub (pc := 59) dX3_changesOf_59 ?_
          refine J_imul (pc := 60) dX3_changesOf_60 ?_
          refine J_iload (pc := 61) dX3_changesOf_61 rfl ?_
          refine J_iadd (pc := 63) dX3_changesOf_63 ?_
          refine J_iconst (pc := 64) 1 dX3_changesOf_64 (by decide) ?_
          refine J_isub (pc := 65) dX3_changesOf_65 ?_
          refine J_ck (fun h2 => ?_)
          refine J_iald (pc := 66) (a := 93) (fun h => sh_a h 73 rfl h2) dX3_changesOf_66 ?_
          refine J_aload_n (pc := 67) dX3_changesOf_67 rfl ?_
          refine J_get (pc := 68) (c := 2) (.ref 91) rfl in_X3 35 (by decide) q1142 rfl (fun h => sh_k1 h 52 rfl) (fun h _ => fv_ref (Or.inr ⟨_, rfl⟩) (sh_r h 67 rfl)) dX3_changesOf_68 ?_
          refine J_iload (pc := 71) dX3_changesOf_71 rfl ?_
          refine J_iconst (pc := 73) 1 dX3_changesOf_73 (by decide) ?_
          refine J_isub (pc := 74) dX3_changesOf_74 ?_
          refine J_ck (fun h3 => ?_)
          refine J_iald (pc := 75) (a := 91) (fun h => sh_a h 71 rfl h3) dX3_changesOf_75 ?_
          refine J_aload_n (pc := 76) dX3_changesOf_76 rfl ?_
          refine J_get (pc := 77) (c := 2) (.ref 92) rfl in_X3 36 (by decide) q1143 rfl (fun h => sh_k1 h 52 rfl) (fun h _ => fv_ref (Or.inr ⟨_, rfl⟩) (sh_r h 68 rfl)) dX3_changesOf_77 ?_
          refine J_iload (pc := 80) dX3_changesOf_80 rfl ?_
          refine J_iconst (pc := 82) 1 dX3_changesOf_82 (by decide) ?_
          refine J_isub (pc := 83) dX3_changesOf_83 ?_
          refine J_ck (fun h4 => ?_)
          refine J_iald (pc := 84) (a := 92) (fun h => sh_a h 72 rfl h4) dX3_changesOf_84 ?_
          refine J_ltj (β := Int32) (P := fun J => ∀ v4 : Int32, T_m_changesOf G M2 93 [some (.ref 72), some (.int c1), some (.int c2), some (.int c3), some (.int c4), some (.int v2), none] [.int v4, .int (M2.i 93 (ix (((c3 * (c4 - 1)) + v2) - 1)))] (J v4)) (fun v4 => ?_) (fun j3 hj3 => ?_)
          · refine J_iadd (pc := 93) dX3_changesOf_93 ?_
            refine J_lt (β := Int32) (v := ((M2.i 93 (ix (((c3 * (c4 - 1)) + v2) - 1))) + v4)) (L := fun _ => _) (S := fun v5 => [.int v5]) (fun v5 => ?_)
            refine J_istore (pc := 94) dX3_changesOf_94 (by decide) ?_
            refine J_aload_n (pc := 96) dX3_changesOf_96 rfl ?_
            refine J_get (pc := 97) (c := 2) (.ref 93) rfl in_X3 37 (by decide) q1144 rfl (fun h => sh_k1 h 52 rfl) (fun h _ => fv_ref (Or.inr ⟨_, rfl⟩) (sh_r h 69 rfl)) dX3_changesOf_97 ?_
            refine J_iload_n (pc := 100) dX3_changesOf_100 rfl ?_
            refine J_iload (pc := 101) dX3_changesOf_101 rfl ?_
            refine J_imul (pc := 103) dX3_changesOf_103 ?_
            refine J_iload (pc := 104) dX3_changesOf_104 rfl ?_
            refine J_iadd (pc := 106) dX3_changesOf_106 ?_
            refine J_iload (pc := 107) dX3_changesOf_107 rfl ?_
            refine J_iconst (pc := 109) 1 dX3_changesOf_109 (by decide) ?_
            refine J_aload_n (pc := 110) dX3_changesOf_110 rfl ?_
            refine J_get (pc := 111) (c := 2) (.ref 93) rfl in_X3 37 (by decide) q1144 rfl (fun h => sh_k1 h 52 rfl) (fun h _ => fv_ref (Or.inr ⟨_, rfl⟩) (sh_r h 69 rfl)) dX3_changesOf_111 ?_
            refine J_iload_n (pc := 114) dX3_changesOf_114 rfl ?_
            refine J_iload (pc := 115) dX3_changesOf_115 rfl ?_
            refine J_iconst (pc := 117) 1 dX3_changesOf_117 (by decide) ?_
            refine J_isub (pc := 118) dX3_changesOf_118 ?_
            refine J_imul (pc := 119) dX3_changesOf_119 ?_
            refine J_iload (pc := 120) dX3_changesOf_120 rfl ?_
            refine J_iadd (pc := 122) dX3_changesOf_122 ?_
            refine J_ck (fun h5 => ?_)
            refine J_iald (pc := 123) (a := 93) (fun h => sh_a h 73 rfl h5) dX3_changesOf_123 ?_
            refine J_aload_n (pc := 124) dX3_changesOf_124 rfl ?_
            refine J_get (pc := 125) (c := 2) (.ref 93) rfl in_X3 37 (by decide) q1144 rfl (fun h => sh_k1 h 52 rfl) (fun h _ => fv_ref (Or.inr ⟨_, rfl⟩) (sh_r h 69 rfl)) dX3_changesOf_125 ?_
            refine J_iload_n (pc := 128) dX3_changesOf_128 rfl ?_
            refine J_iload (pc := 129) dX3_changesOf_129 rfl ?_
            refine J_imul (pc := 131) dX3_changesOf_131 ?_
            refine J_iload (pc := 132) dX3_changesOf_132 rfl ?_
            refine J_iadd (pc := 134) dX3_changesOf_134 ?_
            refine J_iconst (pc := 135) 1 dX3_changesOf_135 (by decide) ?_
            refine J_isub (pc := 136) dX3_changesOf_136 ?_
            refine J_ck (fun h6 => ?_)
            refine J_iald (pc := 137) (a := 93) (fun h => sh_a h 73 rfl h6) dX3_changesOf_137 ?_
            refine J_min (pc := 138) (by omega) q1441 q410 q119 q411 (Nat.le_of_ble_eq_true rfl) dX3_changesOf_138 ?_
            refine J_iadd (pc := 141) dX3_changesOf_141 ?_
            refine J_min (pc := 142) (by omega) q1441 q410 q119 q411 (Nat.le_of_ble_eq_true rfl) dX3_changesOf_142 ?_
            refine J_ck (fun h7 => ?_)
            refine J_iast (pc := 145) (a := 93) (fun h => sh_a h 73 rfl h7) (fun h => Sh_si h) dX3_changesOf_145 ?_
            refine J_ltM (fun M6 => ?_)
            exact J_sub (A := [some (.ref 72), some (.int c1), some (.int c2), some (.int c3), some (.int c4), some (.int v2), none]) ⟨rfl, ⟨rfl, ⟨rfl, ⟨rfl, ⟨rfl, ⟨rfl, trivial⟩⟩⟩⟩⟩⟩ (hj1 M6)
          refine J_icmp_ne (pc := 85) 92 dX3_changesOf_85 rfl (fun h => congrArg j3 (if_neg h)) (fun h => congrArg j3 (if_pos h)) (fun _ => ?_) (fun _ => ?_)
          · refine J_iconst (pc := 92) 1 dX3_changesOf_92 (by decide) ?_
            exact J_sub (A := [some (.ref 72), some (.int c1), some (.int c2), some (.int c3), some (.int c4), some (.int v2), none]) ⟨rfl, ⟨rfl, ⟨rfl, ⟨rfl, ⟨rfl, ⟨rfl, trivial⟩⟩⟩⟩⟩⟩ (hj3 1)
          · refine J_iconst (pc := 88) 0 dX3_changesOf_88 (by decide) ?_
            refine J_goto (pc := 89) 93 dX3_changesOf_89 rfl ?_
            exact J_sub (A := [some (.ref 72), some (.int c1), some (.int c2), some (.int c3), some (.int c4), some (.int v2), none]) ⟨rfl, ⟨rfl, ⟨rfl, ⟨rfl, ⟨rfl, ⟨rfl, trivial⟩⟩⟩⟩⟩⟩ (hj3 0)
        · exact J_sub (A := [some (.ref 72), some (.int c1), some (.int c2), some (.int c3), some (.int c4), some (.int v2), none]) ⟨rfl, ⟨rfl, ⟨rfl, ⟨rfl, ⟨rfl, ⟨rfl, trivial⟩⟩⟩⟩⟩⟩ (hj2 M2)

def m_changesOf_L6 (c1 : Int32) (c2 : Int32) (c3 : Int32) (k158 : PM → Option (Int32 × PM)) : Nat → Int32 → PM → Option (Int32 × PM)
  | 0, _, _ => none
  | n + 1, v1, M1 =>
    if c1 < v1 then (k158 M1)
    else (m_changesOf_L15 c1 c2 c3 v1 (fun (M7 : PM) =>
    lt (v1 + 1) fun v6 =>
    m_changesOf_L6 c1 c2 c3 k158 n v6 M7) FU 0 M1)

set_option maxHeartbeats 4000000 in
theorem t_m_changesOf_L6 (G : JG) (c1 : Int32) (c2 : Int32) (c3 : Int32) (k158 : PM → Option (Int32 × PM)) (hk158 : ∀ Me, T_m_changesOf G  Me 158 [some (.ref 72), some (.int c1), some (.int c2), some (.int c3), none, none, none] [] (k158 Me)) : ∀ (n : Nat) (v1 : Int32) (M1 : PM), T_m_changesOf G  M1 6 [some (.ref 72), some (.int c1), some (.int c2), some (.int c3), some (.int v1), none, none] [] (m_changesOf_L6 c1 c2 c3 k158 n v1 M1) := by
  intro n
  induction n with
  | zero =>
    intro v1 M1
    exact J_none
  | succ n ih =>
    intro v1 M1
    rw [m_changesOf_L6]
    refine J_iload (pc := 6) dX3_changesOf_6 rfl ?_
    refine J_iload_n (pc := 8) dX3_changesOf_8 rfl ?_
    refine J_icmp_gt (pc := 9) 158 dX3_changesOf_9 rfl (fun h => if_pos h) (fun h => if_neg h) (fun _ => ?_) (fun _ => ?_)
    · exact J_sub (A := [some (.ref 72), some (.int c1), some (.int c2), some (.int c3), none, none, none]) ⟨rfl, ⟨rfl, ⟨rfl, ⟨rfl, trivial⟩⟩⟩⟩ (hk158 M1)
    · refine J_iconst (pc := 12) 0 dX3_changesOf_12 (by decide) ?_
      refine J_istore (pc := 13) dX3_changesOf_13 (by decide) ?_
      refine J_sub (A := [some (.ref 72), some (.int c1), some (.int c2), some (.int c3), some (.int v1), some (.int 0), none]) ⟨rfl, ⟨rfl, ⟨rfl, ⟨rfl, ⟨rfl, ⟨rfl, trivial⟩⟩⟩⟩⟩⟩ (t_m_changesOf_L15 G c1 c2 c3 v1 _ ?_ FU 0 M1)
      · intro M7
        refine J_iincL (pc := 152) (n := 1) (by decide) dX3_changesOf_152 rfl (by decide) (fun v6 => ?_)
        refine J_goto (pc := 155) 6 dX3_changesOf_155 rfl ?_
        exact J_sub (A := [some (.ref 72), some (.int c1), some (.int c2), some (.int c3), some (.int v6), none, none]) ⟨rfl, ⟨rfl, ⟨rfl, ⟨rfl, ⟨rfl, trivial⟩⟩⟩⟩⟩ (ih v6 M7)

def m_changesOf (p1 : Int32) (p2 : Int32) (M : PM) : Option (Int32 × PM) :=
    m_changesOf_L6 p1 p2 7 (fun (M8 : PM) =>
    ck ((7 * p1) + p2) 49 <|
    some ((M8.i 93 (ix ((7 * p1) + p2))), M8)) FU 0 M

set_option maxHeartbeats 4000000 in
theorem t_m_changesOf (G : JG) (p1 : Int32) (p2 : Int32) (M : PM) : T_m_changesOf G  M 0 (ent [.ref 72, .int p1, .int p2] 7) [] (m_changesOf p1 p2 M) := by
  unfold m_changesOf
  refine J_bipush (pc := 0) 7 dX3_changesOf_0 (by decide) ?_
  refine J_istore_n (pc := 2) dX3_changesOf_2 (by decide) ?_
  refine J_iconst (pc := 3) 0 dX3_changesOf_3 (by decide) ?_
  refine J_istore (pc := 4) dX3_changesOf_4 (by decide) ?_
  refine J_sub (A := [some (.ref 72), some (.int p1), some (.int p2), some (.int 7), some (.int 0), none, none]) ⟨rfl, ⟨rfl, ⟨rfl, ⟨rfl, ⟨rfl, trivial⟩⟩⟩⟩⟩ (t_m_changesOf_L6 G p1 p2 7 _ ?_ FU 0 M)
  · intro M8
    refine J_aload_n (pc := 158) dX3_changesOf_158 rfl ?_
    refine J_get (pc := 159) (c := 2) (.ref 93) rfl in_X3 37 (by decide) q1144 rfl (fun h => sh_k1 h 52 rfl) (fun h _ => fv_ref (Or.inr ⟨_, rfl⟩) (sh_r h 69 rfl)) dX3_changesOf_159 ?_
    refine J_iload_n (pc := 162) dX3_changesOf_162 rfl ?_
    refine J_iload_n (pc := 163) dX3_changesOf_163 rfl ?_
    refine J_imul (pc := 164) dX3_changesOf_164 ?_
    refine J_iload_n (pc := 165) dX3_changesOf_165 rfl ?_
    refine J_iadd (pc := 166) dX3_changesOf_166 ?_
    refine J_ck (fun h8 => ?_)
    refine J_iald (pc := 167) (a := 93) (fun h => sh_a h 73 rfl h8) dX3_changesOf_167 ?_
    exact J_iret (pc := 168) dX3_changesOf_168

theorem C_m_changesOf (l : Launch) (p1 : Int32) (p2 : Int32) (M : PM) : Ctr l Sh yX3_changesOf cX3_changesOf 7 (some .int) 1 rvI [.ref 72, .int p1, .int p2] M (m_changesOf p1 p2 M) := Ctr.of (by decide +kernel) (Nat.le_of_ble_eq_true rfl) (fun G => t_m_changesOf G p1 p2 M)

abbrev T_m_layWord (G : JG) (M : PM) (pc : Nat) (L : List (Option Value)) (S : List Value) (o : Option (Int32 × PM)) : Prop := JJ G cX3_layWord yX3_layWord 6 2 (some .int) Sh (finR G Sh rvI) M pc L S o
def m_layWord_L6 (c1 : Int32) (c2 : Nat) (c3 : Int32) : Nat → Int32 → Int32 → PM → Option (Int32 × PM)
  | 0, _, _, _ => none
  | n + 1, v1, v2, M1 =>
    ck c1 10 <|
    if (M1.i 75 (ix c1)) ≤ v2 then (some (v1, M1))
    else (jn (fun (v3 : Int32) (M2 : PM) =>
    lt (v2 + 1) fun v4 =>
    m_layWord_L6 c1 c2 c3 n v3 v4 M2) fun j1 =>
    jn (fun (M3 : PM) =>
    bd (m_letter c1 v2 M3) fun v5 M4 =>
    cka M4 c2 20 v1 <|
    lt (M4.si c2 (ix v1) v5) fun M5 =>
    lt (v1 + 1) fun v6 =>
    j1 v6 M5) fun j2 =>
    if c3 = 0 then (j2 M1)
    else (bd (m_letter c1 v2 M1) fun v7 M6 =>
    bd (m_vowelOf v7 M6) fun v8 M7 =>
    if v8 = (-1) then (j1 v1 M7)
    else (j2 M7)))

set_option maxHeartbeats 4000000 in
theorem t_m_layWord_L6 (G : JG) (c1 : Int32) (c2 : Nat) (c3 : Int32) : ∀ (n : Nat) (v1 : Int32) (v2 : Int32) (M1 : PM), T_m_layWord G  M1 6 [some (.ref 72), some (.int c1), some (.ref c2), some (.int c3), some (.int v1), some (.int v2)] [] (m_layWord_L6 c1 c2 c3 n v1 v2 M1) := by
  intro n
  induction n with
  | zero =>
    intro v1 v2 M1
    exact J_none
  | succ n ih =>
    intro v1 v2 M1
    rw [m_layWord_L6]
    refine J_iload (pc := 6) dX3_layWord_6 rfl ?_
    refine J_aload_n (pc := 8) dX3_layWord_8 rfl ?_
    refine J_get (pc := 9) (c := 2) (.ref 75) rfl in_X3 4 (by decide) q1111 rfl (fun h => sh_k1 h 52 rfl) (fun h _ => fv_ref (Or.inr ⟨_, rfl⟩) (sh_r h 53 rfl)) dX3_layWord_9 ?_
    refine J_iload_n (pc := 12) dX3_layWord_12 rfl ?_
    refine J_ck (fun h1 => ?_)
    refine J_iald (pc := 13) (a := 75) (fun h => sh_a h 55 rfl h1) dX3_layWord_13 ?_
    refine J_icmp_ge (pc := 14) 58 dX3_layWord_14 rfl (fun h => if_pos h) (fun h => if_neg h) (fun _ => ?_) (fun _ => ?_)
    · refine J_iload (pc := 58) dX3_layWord_58 rfl ?_
      exact J_iret (pc := 60) dX3_layWord_60
    · refine J_iload_n (pc := 17) dX3_layWord_17 rfl ?_
      refine J_jn (P := fun J => ∀ (v3 : Int32) (M2 : PM), T_m_layWord G  M2 52 [some (.ref 72), some (.int c1), some (.ref c2), some (.int c3), some (.int v3), some (.int v2)] [] (J v3 M2)) (fun v3 M2 => ?_) (fun j1 hj1 => ?_)
      · refine J_iincL (pc := 52) (n := 1) (by decide) dX3_layWord_52 rfl (by decide) (fun v4 => ?_)
        refine J_goto (pc := 55) 6 dX3_layWord_55 rfl ?_
        exact J_sub (A := [some (.ref 72), some (.int c1), some (.ref c2), some (.int c3), some (.int v3), some (.int v4)]) ⟨rfl, ⟨rfl, ⟨rfl, ⟨rfl, ⟨rfl, ⟨rfl, trivial⟩⟩⟩⟩⟩⟩ (ih v3 v4 M2)
      refine J_jn (P := fun J => ∀ (M3 : PM), T_m_layWord G  M3 38 [some (.ref 72), some (.int c1), some (.ref c2), some (.int c3), some (.int v1), some (.int v2)] [] (J M3)) (fun M3 => ?_) (fun j2 hj2 => ?_)
      · refine J_aload_n (pc := 38) dX3_layWord_38 rfl ?_
        refine J_iload (pc := 39) dX3_layWord_39 rfl ?_
        refine J_aload_n (pc := 41) dX3_layWord_41 rfl ?_
        refine J_iload_n (pc := 42) dX3_layWord_42 rfl ?_
        refine J_iload (pc := 43) dX3_layWord_43 rfl ?_
        refine J_callV (pc := 45) (n := 2) (b := 72) (vs := [.int c1, .int v2]) (ci := 2) (fun l => C_m_letter l c1 v2 M3) (lw_V q1399 q1401 qs80 q118 q1402) nmv_X3_letter rfl (by omega) (by decide) rfl (fun h => sh_k1 h 52 rfl) rfl (Nat.le_of_ble_eq_true rfl) dX3_layWord_45 (fun v5 M4 => ?_)
        refine J_cka (fun h2 h22 => ?_)
        refine J_iast (pc := 48) (a := c2) (fun _ => ⟨h2, h22⟩) (fun h => Sh_si h) dX3_layWord_48 ?_
        refine J_ltM (fun M5 => ?_)
        refine J_iincL (pc := 49) (n := 1) (by decide) dX3_layWord_49 rfl (by decide) (fun v6 => ?_)
        exact J_sub (A := [some (.ref 72), some (.int c1), some (.ref c2), some (.int c3), some (.int v6), some (.int v2)]) ⟨rfl, ⟨rfl, ⟨rfl, ⟨rfl, ⟨rfl, ⟨rfl, trivial⟩⟩⟩⟩⟩⟩ (hj1 v6 M5)
      refine J_if_eq (pc := 18) 38 dX3_layWord_18 rfl (fun h => if_pos h) (fun h => if_neg h) (fun _ => ?_) (fun _ => ?_)
      · exact J_sub (A := [some (.ref 72), some (.int c1), some (.ref c2), some (.int c3), some (.int v1), some (.int v2)]) ⟨rfl, ⟨rfl, ⟨rfl, ⟨rfl, ⟨rfl, ⟨rfl, trivial⟩⟩⟩⟩⟩⟩ (hj2 M1)
      · refine J_aload_n (pc := 21) dX3_layWord_21 rfl ?_
        refine J_iload_n (pc := 22) dX3_layWord_22 rfl ?_
        refine J_iload (pc := 23) dX3_layWord_23 rfl ?_
        refine J_callV (pc := 25) (n := 2) (b := 72) (vs := [.int c1, .int v2]) (ci := 2) (fun l => C_m_letter l c1 v2 M1) (lw_V q1399 q1401 qs80 q118 q1402) nmv_X3_letter rfl (by omega) (by decide) rfl (fun h => sh_k1 h 52 rfl) rfl (Nat.le_of_ble_eq_true rfl) dX3_layWord_25 (fun v7 M6 => ?_)
        refine J_callS (pc := 28) (n := 1) (vs := [.int v7]) (fun l => C_m_vowelOf l v7 M6) (lw_S q1403 q1404 q118 q1405) nmh_X3_vowelOf rfl (by omega) (by decide) rfl (Nat.le_of_ble_eq_true rfl) dX3_layWord_28 (fun v8 M7 => ?_)
        refine J_iconst (pc := 31) (-1) dX3_layWord_31 (by decide) ?_
        refine J_icmp_ne (pc := 32) 38 dX3_layWord_32 rfl (fun h => if_neg h) (fun h => if_pos h) (fun _ => ?_) (fun _ => ?_)
        · exact J_sub (A := [some (.ref 72), some (.int c1), some (.ref c2), some (.int c3), some (.int v1), some (.int v2)]) ⟨rfl, ⟨rfl, ⟨rfl, ⟨rfl, ⟨rfl, ⟨rfl, trivial⟩⟩⟩⟩⟩⟩ (hj2 M7)
        · refine J_goto (pc := 35) 52 dX3_layWord_35 rfl ?_
          exact J_sub (A := [some (.ref 72), some (.int c1), some (.ref c2), some (.int c3), some (.int v1), some (.int v2)]) ⟨rfl, ⟨rfl, ⟨rfl, ⟨rfl, ⟨rfl, ⟨rfl, trivial⟩⟩⟩⟩⟩⟩ (hj1 v1 M7)

def m_layWord (p1 : Int32) (p2 : Nat) (p3 : Int32) (M : PM) : Option (Int32 × PM) :=
    m_layWord_L6 p1 p2 p3 FU 0 0 M

set_option maxHeartbeats 4000000 in
theorem t_m_layWord (G : JG) (p1 : Int32) (p2 : Nat) (p3 : Int32) (M : PM) : T_m_layWord G  M 0 (ent [.ref 72, .int p1, .ref p2, .int p3] 6) [] (m_layWord p1 p2 p3 M) := by
  unfold m_layWord
  refine J_iconst (pc := 0) 0 dX3_layWord_0 (by decide) ?_
  refine J_istore (pc := 1) dX3_layWord_1 (by decide) ?_
  refine J_iconst (pc := 3) 0 dX3_layWord_3 (by decide) ?_
  refine J_istore (pc := 4) dX3_layWord_4 (by decide) ?_
  refine J_sub (A := [some (.ref 72), some (.int p1), some (.ref p2), some (.int p3), some (.int 0), some (.int 0)]) ⟨rfl, ⟨rfl, ⟨rfl, ⟨rfl, ⟨rfl, ⟨rfl, trivial⟩⟩⟩⟩⟩⟩ (t_m_layWord_L6 G p1 p2 p3  FU 0 0 M)

theorem C_m_layWord (l : Launch) (p1 : Int32) (p2 : Nat) (p3 : Int32) (M : PM) : Ctr l Sh yX3_layWord cX3_layWord 6 (some .int) 2 rvI [.ref 72, .int p1, .ref p2, .int p3] M (m_layWord p1 p2 p3 M) := Ctr.of (by decide +kernel) (Nat.le_of_ble_eq_true rfl) (fun G => t_m_layWord G p1 p2 p3 M)

abbrev T_m_differBy (G : JG) (M : PM) (pc : Nat) (L : List (Option Value)) (S : List Value) (o : Option (Int32 × PM)) : Prop := JJ G cX3_differBy yX3_differBy 4 3 (some .int) Sh (finR G Sh rvI) M pc L S o
def m_differBy (p1 : Int32) (p2 : Int32) (p3 : Int32) (M : PM) : Option (Int32 × PM) :=
    bd (m_layWord p1 91 p3 M) fun v1 M1 =>
    bd (m_layWord p2 92 p3 M1) fun v2 M2 =>
    bd (m_changesOf v1 v2 M2) fun v3 M3 =>
    some (v3, M3)

set_option maxHeartbeats 4000000 in
theorem t_m_differBy (G : JG) (p1 : Int32) (p2 : Int32) (p3 : Int32) (M : PM) : T_m_differBy G  M 0 (ent [.ref 72, .int p1, .int p2, .int p3] 4) [] (m_differBy p1 p2 p3 M) := by
  unfold m_differBy
  refine J_aload_n (pc := 0) dX3_differBy_0 rfl ?_
  refine J_aload_n (pc := 1) dX3_differBy_1 rfl ?_
  refine J_iload_n (pc := 2) dX3_differBy_2 rfl ?_
  refine J_aload_n (pc := 3) dX3_differBy_3 rfl ?_
  refine J_get (pc := 4) (c := 2) (.ref 91) rfl in_X3 35 (by decide) q1142 rfl (fun h => sh_k1 h 52 rfl) (fun h _ => fv_ref (Or.inr ⟨_, rfl⟩) (sh_r h 67 rfl)) dX3_differBy_4 ?_
  refine J_iload_n (pc := 7) dX3_differBy_7 rfl ?_
  refine J_callV (pc := 8) (n := 3) (b := 72) (vs := [.int p1, .ref 91, .int p3]) (ci := 2) (fun l => C_m_layWord l p1 91 p3 M) (lw_V q1557 q1559 qs99 q118 q1560) nmv_X3_layWord rfl (by omega) (by decide) rfl (fun h => sh_k1 h 52 rfl) rfl (Nat.le_of_ble_eq_true rfl) dX3_differBy_8 (fun v1 M1 => ?_)
  refine J_aload_n (pc := 11) dX3_differBy_11 rfl ?_
  refine J_iload_n (pc := 12) dX3_differBy_12 rfl ?_
  refine J_aload_n (pc := 13) dX3_differBy_13 rfl ?_
  refine J_get (pc := 14) (c := 2) (.ref 92) rfl in_X3 36 (by decide) q1143 rfl (fun h => sh_k1 h 52 rfl) (fun h _ => fv_ref (Or.inr ⟨_, rfl⟩) (sh_r h 68 rfl)) dX3_differBy_14 ?_
  refine J_iload_n (pc := 17) dX3_differBy_17 rfl ?_
  refine J_callV (pc := 18) (n := 3) (b := 72) (vs := [.int p2, .ref 92, .int p3]) (ci := 2) (fun l => C_m_layWord l p2 92 p3 M1) (lw_V q1557 q1559 qs99 q118 q1560) nmv_X3_layWord rfl (by omega) (by decide) rfl (fun h => sh_k1 h 52 rfl) rfl (Nat.le_of_ble_eq_true rfl) dX3_differBy_18 (fun v2 M2 => ?_)
  refine J_callV (pc := 21) (n := 2) (b := 72) (vs := [.int v1, .int v2]) (ci := 2) (fun l => C_m_changesOf l v1 v2 M2) (lw_V q1561 q1563 qs100 q118 q1564) nmv_X3_changesOf rfl (by omega) (by decide) rfl (fun h => sh_k1 h 52 rfl) rfl (Nat.le_of_ble_eq_true rfl) dX3_differBy_21 (fun v3 M3 => ?_)
  exact J_iret (pc := 24) dX3_differBy_24

theorem C_m_differBy (l : Launch) (p1 : Int32) (p2 : Int32) (p3 : Int32) (M : PM) : Ctr l Sh yX3_differBy cX3_differBy 4 (some .int) 3 rvI [.ref 72, .int p1, .int p2, .int p3] M (m_differBy p1 p2 p3 M) := Ctr.of (by decide +kernel) (Nat.le_of_ble_eq_true rfl) (fun G => t_m_differBy G p1 p2 p3 M)

abbrev T_m_differ (G : JG) (M : PM) (pc : Nat) (L : List (Option Value)) (S : List Value) (o : Option (Int32 × PM)) : Prop := JJ G cX3_differ yX3_differ 3 4 (some .int) Sh (finR G Sh rvI) M pc L S o
def m_differ (p1 : Int32) (p2 : Int32) (M : PM) : Option (Int32 × PM) :=
    lt (M.si 72 13 0) fun M1 =>
    bd (m_isWord p1 M1) fun v1 M2 =>
    if v1 = 0 then (some ((-1), M2))
    else (bd (m_isWord p2 M2) fun v2 M3 =>
    if v2 = 0 then (some ((-1), M3))
    else (lt (M3.si 72 12 0) fun M4 =>
    bd (m_differBy p1 p2 1 M4) fun v3 M5 =>
    bd (m_tell (Int32.toInt64 v3) M5) fun _ M6 =>
    bd (m_differBy p1 p2 0 M6) fun v4 M7 =>
    some (v4, M7)))

set_option maxHeartbeats 4000000 in
theorem t_m_differ (G : JG) (p1 : Int32) (p2 : Int32) (M : PM) : T_m_differ G  M 0 (ent [.ref 72, .int p1, .int p2] 3) [] (m_differ p1 p2 M) := by
  unfold m_differ
  refine J_aload_n (pc := 0) dX3_differ_0 rfl ?_
  refine J_iconst (pc := 1) 0 dX3_differ_1 (by decide) ?_
  refine J_put (pc := 2) (a := 72) (v := .int 0) (M' := M.si 72 13 0) (c := 2) rfl in_X3 tyX3_ok fnX3 13 (by decide) q1120 rfl (Or.inl rfl) (fun h => sh_k1 h 52 rfl) (fun _ => rfl) (fun _ => rfl) ⟨⟨rfl, rfl⟩, rfl⟩ (fun _ hb => up2_same hb) (fun _ _ => rfl) (fun _ _ => rfl) (put_i (fun _ _ _ => rfl)) (fun h => Sh_si h) dX3_differ_2 ?_
  refine J_ltM (fun M1 => ?_)
  refine J_aload_n (pc := 5) dX3_differ_5 rfl ?_
  refine J_iload_n (pc := 6) dX3_differ_6 rfl ?_
  refine J_callV (pc := 7) (n := 1) (b := 72) (vs := [.int p1]) (ci := 2) (fun l => C_m_isWord l p1 M1) (lw_V q1383 q1385 qs76 q118 q1386) nmv_X3_isWord rfl (by omega) (by decide) rfl (fun h => sh_k1 h 52 rfl) rfl (Nat.le_of_ble_eq_true rfl) dX3_differ_7 (fun v1 M2 => ?_)
  refine J_if_eq (pc := 10) 21 dX3_differ_10 rfl (fun h => if_pos h) (fun h => if_neg h) (fun _ => ?_) (fun _ => ?_)
  · refine J_iconst (pc := 21) (-1) dX3_differ_21 (by decide) ?_
    exact J_iret (pc := 22) dX3_differ_22
  · refine J_aload_n (pc := 13) dX3_differ_13 rfl ?_
    refine J_iload_n (pc := 14) dX3_differ_14 rfl ?_
    refine J_callV (pc := 15) (n := 1) (b := 72) (vs := [.int p2]) (ci := 2) (fun l => C_m_isWord l p2 M2) (lw_V q1383 q1385 qs76 q118 q1386) nmv_X3_isWord rfl (by omega) (by decide) rfl (fun h => sh_k1 h 52 rfl) rfl (Nat.le_of_ble_eq_true rfl) dX3_differ_15 (fun v2 M3 => ?_)
    refine J_if_ne (pc := 18) 23 dX3_differ_18 rfl (fun h => if_neg h) (fun h => if_pos h) (fun _ => ?_) (fun _ => ?_)
    · refine J_aload_n (pc := 23) dX3_differ_23 rfl ?_
      refine J_iconst (pc := 24) 0 dX3_differ_24 (by decide) ?_
      refine J_put (pc := 25) (a := 72) (v := .int 0) (M' := M3.si 72 12 0) (c := 2) rfl in_X3 tyX3_ok fnX3 12 (by decide) q1119 rfl (Or.inl rfl) (fun h => sh_k1 h 52 rfl) (fun _ => rfl) (fun _ => rfl) ⟨⟨rfl, rfl⟩, rfl⟩ (fun _ hb => up2_same hb) (fun _ _ => rfl) (fun _ _ => rfl) (put_i (fun _ _ _ => rfl)) (fun h => Sh_si h) dX3_differ_25 ?_
      refine J_ltM (fun M4 => ?_)
      refine J_aload_n (pc := 28) dX3_differ_28 rfl ?_
      refine J_aload_n (pc := 29) dX3_differ_29 rfl ?_
      refine J_iload_n (pc := 30) dX3_differ_30 rfl ?_
      refine J_iload_n (pc := 31) dX3_differ_31 rfl ?_
      refine J_iconst (pc := 32) 1 dX3_differ_32 (by decide) ?_
      refine J_callV (pc := 33) (n := 3) (b := 72) (vs := [.int p1, .int p2, .int 1]) (ci := 2) (fun l => C_m_differBy l p1 p2 1 M4) (lw_V q1553 q1555 qs98 q118 q1556) nmv_X3_differBy rfl (by omega) (by decide) rfl (fun h => sh_k1 h 52 rfl) rfl (Nat.le_of_ble_eq_true rfl) dX3_differ_33 (fun v3 M5 => ?_)
      refine J_i2l (pc := 36) dX3_differ_36 ?_
      refine J_callV (pc := 37) (n := 1) (b := 72) (vs := [.long (Int32.toInt64 v3)]) (ci := 2) (fun l => C_m_tell l (Int32.toInt64 v3) M5) (lw_V q1455 q1457 qs87 q118 q1458) nmv_X3_tell rfl (by omega) (by decide) rfl (fun h => sh_k1 h 52 rfl) rfl (Nat.le_of_ble_eq_true rfl) dX3_differ_37 (fun _ M6 => ?_)
      refine J_aload_n (pc := 40) dX3_differ_40 rfl ?_
      refine J_iload_n (pc := 41) dX3_differ_41 rfl ?_
      refine J_iload_n (pc := 42) dX3_differ_42 rfl ?_
      refine J_iconst (pc := 43) 0 dX3_differ_43 (by decide) ?_
      refine J_callV (pc := 44) (n := 3) (b := 72) (vs := [.int p1, .int p2, .int 0]) (ci := 2) (fun l => C_m_differBy l p1 p2 0 M6) (lw_V q1553 q1555 qs98 q118 q1556) nmv_X3_differBy rfl (by omega) (by decide) rfl (fun h => sh_k1 h 52 rfl) rfl (Nat.le_of_ble_eq_true rfl) dX3_differ_44 (fun v4 M7 => ?_)
      exact J_iret (pc := 47) dX3_differ_47
    · refine J_iconst (pc := 21) (-1) dX3_differ_21 (by decide) ?_
      exact J_iret (pc := 22) dX3_differ_22

theorem C_m_differ (l : Launch) (p1 : Int32) (p2 : Int32) (M : PM) : Ctr l Sh yX3_differ cX3_differ 3 (some .int) 4 rvI [.ref 72, .int p1, .int p2] M (m_differ p1 p2 M) := Ctr.of (by decide +kernel) (Nat.le_of_ble_eq_true rfl) (fun G => t_m_differ G p1 p2 M)

abbrev T_m_share (G : JG) (M : PM) (pc : Nat) (L : List (Option Value)) (S : List Value) (o : Option (Int32 × PM)) : Prop := JJ G cX3_share yX3_share 3 2 (some .boolean) Sh (finR G Sh rvI) M pc L S o
def m_share (p1 : Int32) (p2 : Int32) (M : PM) : Option (Int32 × PM) :=
    ck (2 * p1) 20 <|
    bd (m_means p2 (M.i 76 (ix (2 * p1))) M) fun v1 M1 =>
    if v1 = 0 then (ck ((2 * p1) + 1) 20 <|
    if (M1.i 76 (ix ((2 * p1) + 1))) = (-1) then (some (0, M1))
    else (ck ((2 * p1) + 1) 20 <|
    bd (m_means p2 (M1.i 76 (ix ((2 * p1) + 1))) M1) fun v2 M2 =>
    if v2 = 0 then (some (0, M2))
    else (some (1, M2))))
    else (some (1, M1))

set_option maxHeartbeats 4000000 in
theorem t_m_share (G : JG) (p1 : Int32) (p2 : Int32) (M : PM) : T_m_share G  M 0 (ent [.ref 72, .int p1, .int p2] 3) [] (m_share p1 p2 M) := by
  unfold m_share
  refine J_aload_n (pc := 0) dX3_share_0 rfl ?_
  refine J_iload_n (pc := 1) dX3_share_1 rfl ?_
  refine J_aload_n (pc := 2) dX3_share_2 rfl ?_
  refine J_get (pc := 3) (c := 2) (.ref 76) rfl in_X3 5 (by decide) q1112 rfl (fun h => sh_k1 h 52 rfl) (fun h _ => fv_ref (Or.inr ⟨_, rfl⟩) (sh_r h 54 rfl)) dX3_share_3 ?_
  refine J_iconst (pc := 6) 2 dX3_share_6 (by decide) ?_
  refine J_iload_n (pc := 7) dX3_share_7 rfl ?_
  refine J_imul (pc := 8) dX3_share_8 ?_
  refine J_ck (fun h1 => ?_)
  refine J_iald (pc := 9) (a := 76) (fun h => sh_a h 56 rfl h1) dX3_share_9 ?_
  refine J_callV (pc := 10) (n := 2) (b := 72) (vs := [.int p2, .int (M.i 76 (ix (2 * p1)))]) (ci := 2) (fun l => C_m_means l p2 (M.i 76 (ix (2 * p1))) M) (lw_V q1493 q1495 qs92 q118 q1496) nmv_X3_means rfl (by omega) (by decide) rfl (fun h => sh_k1 h 52 rfl) rfl (Nat.le_of_ble_eq_true rfl) dX3_share_10 (fun v1 M1 => ?_)
  refine J_if_ne (pc := 13) 48 dX3_share_13 rfl (fun h => if_neg h) (fun h => if_pos h) (fun _ => ?_) (fun _ => ?_)
  · refine J_iconst (pc := 48) 1 dX3_share_48 (by decide) ?_
    refine J_goto (pc := 49) 53 dX3_share_49 rfl ?_
    exact J_zret (pc := 53) rfl dX3_share_53
  · refine J_aload_n (pc := 16) dX3_share_16 rfl ?_
    refine J_get (pc := 17) (c := 2) (.ref 76) rfl in_X3 5 (by decide) q1112 rfl (fun h => sh_k1 h 52 rfl) (fun h _ => fv_ref (Or.inr ⟨_, rfl⟩) (sh_r h 54 rfl)) dX3_share_17 ?_
    refine J_iconst (pc := 20) 2 dX3_share_20 (by decide) ?_
    refine J_iload_n (pc := 21) dX3_share_21 rfl ?_
    refine J_imul (pc := 22) dX3_share_22 ?_
    refine J_iconst (pc := 23) 1 dX3_share_23 (by decide) ?_
    refine J_iadd (pc := 24) dX3_share_24 ?_
    refine J_ck (fun h2 => ?_)
    refine J_iald (pc := 25) (a := 76) (fun h => sh_a h 56 rfl h2) dX3_share_25 ?_
    refine J_iconst (pc := 26) (-1) dX3_share_26 (by decide) ?_
    refine J_icmp_eq (pc := 27) 52 dX3_share_27 rfl (fun h => if_pos h) (fun h => if_neg h) (fun _ => ?_) (fun _ => ?_)
    · refine J_iconst (pc := 52) 0 dX3_share_52 (by decide) ?_
      exact J_zret (pc := 53) rfl dX3_share_53
    · refine J_aload_n (pc := 30) dX3_share_30 rfl ?_
      refine J_iload_n (pc := 31) dX3_share_31 rfl ?_
      refine J_aload_n (pc := 32) dX3_share_32 rfl ?_
      refine J_get (pc := 33) (c := 2) (.ref 76) rfl in_X3 5 (by decide) q1112 rfl (fun h => sh_k1 h 52 rfl) (fun h _ => fv_ref (Or.inr ⟨_, rfl⟩) (sh_r h 54 rfl)) dX3_share_33 ?_
      refine J_iconst (pc := 36) 2 dX3_share_36 (by decide) ?_
      refine J_iload_n (pc := 37) dX3_share_37 rfl ?_
      refine J_imul (pc := 38) dX3_share_38 ?_
      refine J_iconst (pc := 39) 1 dX3_share_39 (by decide) ?_
      refine J_iadd (pc := 40) dX3_share_40 ?_
      refine J_ck (fun h3 => ?_)
      refine J_iald (pc := 41) (a := 76) (fun h => sh_a h 56 rfl h3) dX3_share_41 ?_
      refine J_callV (pc := 42) (n := 2) (b := 72) (vs := [.int p2, .int (M1.i 76 (ix ((2 * p1) + 1)))]) (ci := 2) (fun l => C_m_means l p2 (M1.i 76 (ix ((2 * p1) + 1))) M1) (lw_V q1493 q1495 qs92 q118 q1496) nmv_X3_means rfl (by omega) (by decide) rfl (fun h => sh_k1 h 52 rfl) rfl (Nat.le_of_ble_eq_true rfl) dX3_share_42 (fun v2 M2 => ?_)
      refine J_if_eq (pc := 45) 52 dX3_share_45 rfl (fun h => if_pos h) (fun h => if_neg h) (fun _ => ?_) (fun _ => ?_)
      · refine J_iconst (pc := 52) 0 dX3_share_52 (by decide) ?_
        exact J_zret (pc := 53) rfl dX3_share_53
      · refine J_iconst (pc := 48) 1 dX3_share_48 (by decide) ?_
        refine J_goto (pc := 49) 53 dX3_share_49 rfl ?_
        exact J_zret (pc := 53) rfl dX3_share_53

theorem C_m_share (l : Launch) (p1 : Int32) (p2 : Int32) (M : PM) : Ctr l Sh yX3_share cX3_share 3 (some .boolean) 2 rvI [.ref 72, .int p1, .int p2] M (m_share p1 p2 M) := Ctr.of (by decide +kernel) (Nat.le_of_ble_eq_true rfl) (fun G => t_m_share G p1 p2 M)

abbrev T_m_near (G : JG) (M : PM) (pc : Nat) (L : List (Option Value)) (S : List Value) (o : Option (Int32 × PM)) : Prop := JJ G cX3_near yX3_near 4 4 (some .int) Sh (finR G Sh rvI) M pc L S o
def m_near_L19 (c1 : Int32) (k62 : Int32 → PM → Option (Int32 × PM)) : Nat → Int32 → Int32 → PM → Option (Int32 × PM)
  | 0, _, _, _ => none
  | n + 1, v2, v3, M3 =>
    if (M3.i 72 2) ≤ v3 then (k62 v2 M3)
    else (jn (fun (v4 : Int32) (M4 : PM) =>
    lt (v3 + 1) fun v5 =>
    m_near_L19 c1 k62 n v4 v5 M4) fun j1 =>
    if v3 = c1 then (j1 v2 M3)
    else (jn (fun (M5 : PM) =>
    j1 v3 M5) fun j2 =>
    if v2 = (-1) then (j2 M3)
    else (bd (m_differBy c1 v3 0 M3) fun v6 M6 =>
    bd (m_differBy c1 v2 0 M6) fun v7 M7 =>
    if v7 ≤ v6 then (j1 v2 M7)
    else (j2 M7))))

set_option maxHeartbeats 4000000 in
theorem t_m_near_L19 (G : JG) (c1 : Int32) (k62 : Int32 → PM → Option (Int32 × PM)) (hk62 : ∀ z2 Me, T_m_near G  Me 62 [some (.ref 72), some (.int c1), some (.int z2), none] [] (k62 z2 Me)) : ∀ (n : Nat) (v2 : Int32) (v3 : Int32) (M3 : PM), T_m_near G  M3 19 [some (.ref 72), some (.int c1), some (.int v2), some (.int v3)] [] (m_near_L19 c1 k62 n v2 v3 M3) := by
  intro n
  induction n with
  | zero =>
    intro v2 v3 M3
    exact J_none
  | succ n ih =>
    intro v2 v3 M3
    rw [m_near_L19]
    refine J_iload_n (pc := 19) dX3_near_19 rfl ?_
    refine J_aload_n (pc := 20) dX3_near_20 rfl ?_
    refine J_get (pc := 21) (c := 2) (.int (M3.i 72 2)) rfl in_X3 2 (by decide) q1109 rfl (fun h => sh_k1 h 52 rfl) (fun _ _ => rfl) dX3_near_21 ?_
    refine J_icmp_ge (pc := 24) 62 dX3_near_24 rfl (fun h => if_pos h) (fun h => if_neg h) (fun _ => ?_) (fun _ => ?_)
    · exact J_sub (A := [some (.ref 72), some (.int c1), some (.int v2), none]) ⟨rfl, ⟨rfl, ⟨rfl, trivial⟩⟩⟩ (hk62 v2 M3)
    · refine J_iload_n (pc := 27) dX3_near_27 rfl ?_
      refine J_iload_n (pc := 28) dX3_near_28 rfl ?_
      refine J_jn (P := fun J => ∀ (v4 : Int32) (M4 : PM), T_m_near G  M4 56 [some (.ref 72), some (.int c1), some (.int v4), some (.int v3)] [] (J v4 M4)) (fun v4 M4 => ?_) (fun j1 hj1 => ?_)
      · refine J_iincL (pc := 56) (n := 1) (by decide) dX3_near_56 rfl (by decide) (fun v5 => ?_)
        refine J_goto (pc := 59) 19 dX3_near_59 rfl ?_
        exact J_sub (A := [some (.ref 72), some (.int c1), some (.int v4), some (.int v5)]) ⟨rfl, ⟨rfl, ⟨rfl, ⟨rfl, trivial⟩⟩⟩⟩ (ih v4 v5 M4)
      refine J_icmp_eq (pc := 29) 56 dX3_near_29 rfl (fun h => if_pos h) (fun h => if_neg h) (fun _ => ?_) (fun _ => ?_)
      · exact J_sub (A := [some (.ref 72), some (.int c1), some (.int v2), some (.int v3)]) ⟨rfl, ⟨rfl, ⟨rfl, ⟨rfl, trivial⟩⟩⟩⟩ (hj1 v2 M3)
      · refine J_iload_n (pc := 32) dX3_near_32 rfl ?_
        refine J_iconst (pc := 33) (-1) dX3_near_33 (by decide) ?_
        refine J_jn (P := fun J => ∀ (M5 : PM), T_m_near G  M5 54 [some (.ref 72), some (.int c1), none, some (.int v3)] [] (J M5)) (fun M5 => ?_) (fun j2 hj2 => ?_)
        · refine J_iload_n (pc := 54) dX3_near_54 rfl ?_
          refine J_istore_n (pc := 55) dX3_near_55 (by decide) ?_
          exact J_sub (A := [some (.ref 72), some (.int c1), some (.int v3), some (.int v3)]) ⟨rfl, ⟨rfl, ⟨rfl, ⟨rfl, trivial⟩⟩⟩⟩ (hj1 v3 M5)
        refine J_icmp_eq (pc := 34) 54 dX3_near_34 rfl (fun h => if_pos h) (fun h => if_neg h) (fun _ => ?_) (fun _ => ?_)
        · exact J_sub (A := [some (.ref 72), some (.int c1), none, some (.int v3)]) ⟨rfl, ⟨rfl, ⟨rfl, trivial⟩⟩⟩ (hj2 M3)
        · refine J_aload_n (pc := 37) dX3_near_37 rfl ?_
          refine J_iload_n (pc := 38) dX3_near_38 rfl ?_
          refine J_iload_n (pc := 39) dX3_near_39 rfl ?_
          refine J_iconst (pc := 40) 0 dX3_near_40 (by decide) ?_
          refine J_callV (pc := 41) (n := 3) (b := 72) (vs := [.int c1, .int v3, .int 0]) (ci := 2) (fun l => C_m_differBy l c1 v3 0 M3) (lw_V q1553 q1555 qs98 q118 q1556) nmv_X3_differBy rfl (by omega) (by decide) rfl (fun h => sh_k1 h 52 rfl) rfl (Nat.le_of_ble_eq_true rfl) dX3_near_41 (fun v6 M6 => ?_)
          refine J_aload_n (pc := 44) dX3_near_44 rfl ?_
          refine J_iload_n (pc := 45) dX3_near_45 rfl ?_
          refine J_iload_n (pc := 46) dX3_near_46 rfl ?_
          refine J_iconst (pc := 47) 0 dX3_near_47 (by decide) ?_
          refine J_callV (pc := 48) (n := 3) (b := 72) (vs := [.int c1, .int v2, .int 0]) (ci := 2) (fun l => C_m_differBy l c1 v2 0 M6) (lw_V q1553 q1555 qs98 q118 q1556) nmv_X3_differBy rfl (by omega) (by decide) rfl (fun h => sh_k1 h 52 rfl) rfl (Nat.le_of_ble_eq_true rfl) dX3_near_48 (fun v7 M7 => ?_)
          refine J_icmp_ge (pc := 51) 56 dX3_near_51 rfl (fun h => if_pos h) (fun h => if_neg h) (fun _ => ?_) (fun _ => ?_)
          · exact J_sub (A := [some (.ref 72), some (.int c1), some (.int v2), some (.int v3)]) ⟨rfl, ⟨rfl, ⟨rfl, ⟨rfl, trivial⟩⟩⟩⟩ (hj1 v2 M7)
          · exact J_sub (A := [some (.ref 72), some (.int c1), none, some (.int v3)]) ⟨rfl, ⟨rfl, ⟨rfl, trivial⟩⟩⟩ (hj2 M7)

def m_near (p1 : Int32) (M : PM) : Option (Int32 × PM) :=
    lt (M.si 72 13 0) fun M1 =>
    bd (m_isWord p1 M1) fun v1 M2 =>
    if v1 = 0 then (some ((-1), M2))
    else (m_near_L19 p1 (fun (v8 : Int32) (M8 : PM) =>
    if v8 = (-1) then (some ((-2), M8))
    else (lt (M8.si 72 12 0) fun M9 =>
    bd (m_differBy p1 v8 0 M9) fun v9 M10 =>
    bd (m_tell (Int32.toInt64 v9) M10) fun _ M11 =>
    bd (m_share p1 v8 M11) fun v10 M12 =>
    jn (fun (w1 : Int64) (M13 : PM) =>
    bd (m_tell w1 M13) fun _ M14 =>
    some (v8, M14)) fun j3 =>
    if v10 = 0 then (j3 0 M12)
    else (j3 1 M12))) FU (-1) 0 M2)

set_option maxHeartbeats 4000000 in
theorem t_m_near (G : JG) (p1 : Int32) (M : PM) : T_m_near G  M 0 (ent [.ref 72, .int p1] 4) [] (m_near p1 M) := by
  unfold m_near
  refine J_aload_n (pc := 0) dX3_near_0 rfl ?_
  refine J_iconst (pc := 1) 0 dX3_near_1 (by decide) ?_
  refine J_put (pc := 2) (a := 72) (v := .int 0) (M' := M.si 72 13 0) (c := 2) rfl in_X3 tyX3_ok fnX3 13 (by decide) q1120 rfl (Or.inl rfl) (fun h => sh_k1 h 52 rfl) (fun _ => rfl) (fun _ => rfl) ⟨⟨rfl, rfl⟩, rfl⟩ (fun _ hb => up2_same hb) (fun _ _ => rfl) (fun _ _ => rfl) (put_i (fun _ _ _ => rfl)) (fun h => Sh_si h) dX3_near_2 ?_
  refine J_ltM (fun M1 => ?_)
  refine J_aload_n (pc := 5) dX3_near_5 rfl ?_
  refine J_iload_n (pc := 6) dX3_near_6 rfl ?_
  refine J_callV (pc := 7) (n := 1) (b := 72) (vs := [.int p1]) (ci := 2) (fun l => C_m_isWord l p1 M1) (lw_V q1383 q1385 qs76 q118 q1386) nmv_X3_isWord rfl (by omega) (by decide) rfl (fun h => sh_k1 h 52 rfl) rfl (Nat.le_of_ble_eq_true rfl) dX3_near_7 (fun v1 M2 => ?_)
  refine J_if_ne (pc := 10) 15 dX3_near_10 rfl (fun h => if_neg h) (fun h => if_pos h) (fun _ => ?_) (fun _ => ?_)
  · refine J_iconst (pc := 15) (-1) dX3_near_15 (by decide) ?_
    refine J_istore_n (pc := 16) dX3_near_16 (by decide) ?_
    refine J_iconst (pc := 17) 0 dX3_near_17 (by decide) ?_
    refine J_istore_n (pc := 18) dX3_near_18 (by decide) ?_
    refine J_sub (A := [some (.ref 72), some (.int p1), some (.int (-1)), some (.int 0)]) ⟨rfl, ⟨rfl, ⟨rfl, ⟨rfl, trivial⟩⟩⟩⟩ (t_m_near_L19 G p1 _ ?_ FU (-1) 0 M2)
    · intro v8 M8
      refine J_iload_n (pc := 62) dX3_near_62 rfl ?_
      refine J_iconst (pc := 63) (-1) dX3_near_63 (by decide) ?_
      refine J_icmp_ne (pc := 64) 70 dX3_near_64 rfl (fun h => if_neg h) (fun h => if_pos h) (fun _ => ?_) (fun _ => ?_)
      · refine J_aload_n (pc := 70) dX3_near_70 rfl ?_
        refine J_iconst (pc := 71) 0 dX3_near_71 (by decide) ?_
        refine J_put (pc := 72) (a := 72) (v := .int 0) (M' := M8.si 72 12 0) (c := 2) rfl in_X3 tyX3_ok fnX3 12 (by decide) q1119 rfl (Or.inl rfl) (fun h => sh_k1 h 52 rfl) (fun _ => rfl) (fun _ => rfl) ⟨⟨rfl, rfl⟩, rfl⟩ (fun _ hb => up2_same hb) (fun _ _ => rfl) (fun _ _ => rfl) (put_i (fun _ _ _ => rfl)) (fun h => Sh_si h) dX3_near_72 ?_
        refine J_ltM (fun M9 => ?_)
        refine J_aload_n (pc := 75) dX3_near_75 rfl ?_
        refine J_aload_n (pc := 76) dX3_near_76 rfl ?_
        refine J_iload_n (pc := 77) dX3_near_77 rfl ?_
        refine J_iload_n (pc := 78) dX3_near_78 rfl ?_
        refine J_iconst (pc := 79) 0 dX3_near_79 (by decide) ?_
        refine J_callV (pc := 80) (n := 3) (b := 72) (vs := [.int p1, .int v8, .int 0]) (ci := 2) (fun l => C_m_differBy l p1 v8 0 M9) (lw_V q1553 q1555 qs98 q118 q1556) nmv_X3_differBy rfl (by omega) (by decide) rfl (fun h => sh_k1 h 52 rfl) rfl (Nat.le_of_ble_eq_true rfl) dX3_near_80 (fun v9 M10 => ?_)
        refine J_i2l (pc := 83) dX3_near_83 ?_
        refine J_callV (pc := 84) (n := 1) (b := 72) (vs := [.long (Int32.toInt64 v9)]) (ci := 2) (fun l => C_m_tell l (Int32.toInt64 v9) M10) (lw_V q1455 q1457 qs87 q118 q1458) nmv_X3_tell rfl (by omega) (by decide) rfl (fun h => sh_k1 h 52 rfl) rfl (Nat.le_of_ble_eq_true rfl) dX3_near_84 (fun _ M11 => ?_)
        refine J_aload_n (pc := 87) dX3_near_87 rfl ?_
        refine J_aload_n (pc := 88) dX3_near_88 rfl ?_
        refine J_iload_n (pc := 89) dX3_near_89 rfl ?_
        refine J_iload_n (pc := 90) dX3_near_90 rfl ?_
        refine J_callV (pc := 91) (n := 2) (b := 72) (vs := [.int p1, .int v8]) (ci := 2) (fun l => C_m_share l p1 v8 M11) (lw_V q1569 q1571 qs101 q118 q1572) nmv_X3_share rfl (by omega) (by decide) rfl (fun h => sh_k1 h 52 rfl) rfl (Nat.le_of_ble_eq_true rfl) dX3_near_91 (fun v10 M12 => ?_)
        refine J_jn (P := fun J => ∀ (w1 : Int64) (M13 : PM), T_m_near G  M13 102 [none, none, some (.int v8), none] [.long w1, .ref 72] (J w1 M13)) (fun w1 M13 => ?_) (fun j3 hj3 => ?_)
        · refine J_callV (pc := 102) (n := 1) (b := 72) (vs := [.long w1]) (ci := 2) (fun l => C_m_tell l w1 M13) (lw_V q1455 q1457 qs87 q118 q1458) nmv_X3_tell rfl (by omega) (by decide) rfl (fun h => sh_k1 h 52 rfl) rfl (Nat.le_of_ble_eq_true rfl) dX3_near_102 (fun _ M14 => ?_)
          refine J_iload_n (pc := 105) dX3_near_105 rfl ?_
          exact J_iret (pc := 106) dX3_near_106
        refine J_if_eq (pc := 94) 101 dX3_near_94 rfl (fun h => if_pos h) (fun h => if_neg h) (fun _ => ?_) (fun _ => ?_)
        · refine J_lconst (pc := 101) 0 dX3_near_101 (by decide) ?_
          exact J_sub (A := [none, none, some (.int v8), none]) ⟨rfl, trivial⟩ (hj3 0 M12)
        · refine J_lconst (pc := 97) 1 dX3_near_97 (by decide) ?_
          refine J_goto (pc := 98) 102 dX3_near_98 rfl ?_
          exact J_sub (A := [none, none, some (.int v8), none]) ⟨rfl, trivial⟩ (hj3 1 M12)
      · refine J_bipush (pc := 67) (-2) dX3_near_67 (by decide) ?_
        exact J_iret (pc := 69) dX3_near_69
  · refine J_iconst (pc := 13) (-1) dX3_near_13 (by decide) ?_
    exact J_iret (pc := 14) dX3_near_14

theorem C_m_near (l : Launch) (p1 : Int32) (M : PM) : Ctr l Sh yX3_near cX3_near 4 (some .int) 4 rvI [.ref 72, .int p1] M (m_near p1 M) := Ctr.of (by decide +kernel) (Nat.le_of_ble_eq_true rfl) (fun G => t_m_near G p1 M)

abbrev T_b_m_common (G : JG) (d : Nat) (M : PM) (pc : Nat) (L : List (Option Value)) (S : List Value) (o : Option (Int64 × PM)) : Prop := JJ G cX3_common yX3_common 4 (d + 21) (some .long) Sh (finR G Sh rvL) M pc L S o
def b_m_common (f_common : Int64 → Int64 → PM → Option (Int64 × PM)) (p0 : Int64) (p2 : Int64) (M : PM) : Option (Int64 × PM) :=
    if (lg_cmp p2 0) = 0 then (some (p0, M))
    else (ckb (¬ (p2 : Int64) = 0) <|
    bd (f_common p2 (p0 - p0 / p2 * p2) M) fun w1 M1 =>
    some (w1, M1))

set_option maxHeartbeats 4000000 in
theorem t_b_m_common (G : JG) (d : Nat) (f_common : Int64 → Int64 → PM → Option (Int64 × PM)) (h_common : ∀ (b0 : Int64) (b1 : Int64) (M : PM) (l : Launch), Ctr l Sh yX3_common cX3_common 4 (some .long) (d + 20) rvL [.long b0, .long b1] M (f_common b0 b1 M)) (p0 : Int64) (p2 : Int64) (M : PM) : T_b_m_common G d M 0 (ent [.long p0, .long p2] 4) [] (b_m_common f_common p0 p2 M) := by
  unfold b_m_common
  refine J_lload_n (pc := 0) dX3_common_0 rfl ?_
  refine J_lconst (pc := 1) 0 dX3_common_1 (by decide) ?_
  refine J_lcmp (pc := 2) dX3_common_2 ?_
  refine J_if_ne (pc := 3) 10 dX3_common_3 rfl (fun h => if_neg h) (fun h => if_pos h) (fun _ => ?_) (fun _ => ?_)
  · refine J_lload_n (pc := 10) dX3_common_10 rfl ?_
    refine J_lload_n (pc := 11) dX3_common_11 rfl ?_
    refine J_lload_n (pc := 12) dX3_common_12 rfl ?_
    refine J_ckb (fun h1 => ?_)
    refine J_lrem (pc := 13) dX3_common_13 h1 ?_
    refine J_callS (pc := 14) (n := 2) (vs := [.long p2, .long (p0 - p0 / p2 * p2)]) (fun l => h_common p2 (p0 - p0 / p2 * p2) M l) (lw_S q1581 q1582 q118 q1583) nmh_X3_common rfl (by omega) (by decide) rfl (Nat.le_of_ble_eq_true rfl) dX3_common_14 (fun w1 M1 => ?_)
    exact J_lret (pc := 17) dX3_common_17
  · refine J_lload_n (pc := 6) dX3_common_6 rfl ?_
    refine J_goto (pc := 7) 17 dX3_common_7 rfl ?_
    exact J_lret (pc := 17) dX3_common_17

def G_m_common : Nat → (Int64 → Int64 → PM → Option (Int64 × PM))
  | 0 => (fun _ _ _ => none)
  | n + 1 => (b_m_common ((G_m_common n)))
theorem CG_m_common : ∀ d : Nat, (∀ (b0 : Int64) (b1 : Int64) (M : PM) (l : Launch), Ctr l Sh yX3_common cX3_common 4 (some .long) (d + 20) rvL [.long b0, .long b1] M ((G_m_common d) b0 b1 M)) := by
  intro d
  induction d with
  | zero => exact fun _ _ _ _ r M1 h => (by cases h)
  | succ d ih =>
    have h0 := ih
    exact fun b0 b1 M l => Ctr.of (by decide +kernel) (Nat.le_of_ble_eq_true rfl) (fun G => t_b_m_common G d _ h0 b0 b1 M)
def m_common (b0 : Int64) (b1 : Int64) (M : PM) : Option (Int64 × PM) := (G_m_common 120) b0 b1 M
theorem C_m_common (l : Launch) (b0 : Int64) (b1 : Int64) (M : PM) : Ctr l Sh yX3_common cX3_common 4 (some .long) 140 rvL [.long b0, .long b1] M (m_common b0 b1 M) := CG_m_common 120 b0 b1 M l
abbrev T_m_power (G : JG) (M : PM) (pc : Nat) (L : List (Option Value)) (S : List Value) (o : Option (Int64 × PM)) : Prop := JJ G cX3_power yX3_power 6 1 (some .long) Sh (finR G Sh rvL) M pc L S o
def m_power_L5 (c0 : Int64) (c2 : Int32) (k21 : Int64 → PM → Option (Int64 × PM)) : Nat → Int64 → Int32 → PM → Option (Int64 × PM)
  | 0, _, _, _ => none
  | n + 1, w1, v1, M1 =>
    if c2 ≤ v1 then (k21 w1 M1)
    else (lt (w1 * c0) fun w2 =>
    lt (v1 + 1) fun v2 =>
    m_power_L5 c0 c2 k21 n w2 v2 M1)

set_option maxHeartbeats 4000000 in
theorem t_m_power_L5 (G : JG) (c0 : Int64) (c2 : Int32) (k21 : Int64 → PM → Option (Int64 × PM)) (hk21 : ∀ z3 Me, T_m_power G  Me 21 [none, none, none, some (.long z3), none, none] [] (k21 z3 Me)) : ∀ (n : Nat) (w1 : Int64) (v1 : Int32) (M1 : PM), T_m_power G  M1 5 [some (.long c0), none, some (.int c2), some (.long w1), none, some (.int v1)] [] (m_power_L5 c0 c2 k21 n w1 v1 M1) := by
  intro n
  induction n with
  | zero =>
    intro w1 v1 M1
    exact J_none
  | succ n ih =>
    intro w1 v1 M1
    rw [m_power_L5]
    refine J_iload (pc := 5) dX3_power_5 rfl ?_
    refine J_iload_n (pc := 7) dX3_power_7 rfl ?_
    refine J_icmp_ge (pc := 8) 21 dX3_power_8 rfl (fun h => if_pos h) (fun h => if_neg h) (fun _ => ?_) (fun _ => ?_)
    · exact J_sub (A := [none, none, none, some (.long w1), none, none]) ⟨rfl, trivial⟩ (hk21 w1 M1)
    · refine J_lload_n (pc := 11) dX3_power_11 rfl ?_
      refine J_lload_n (pc := 12) dX3_power_12 rfl ?_
      refine J_lmul (pc := 13) dX3_power_13 ?_
      refine J_lt (β := Int64) (v := (w1 * c0)) (L := fun _ => _) (S := fun w2 => [.long w2]) (fun w2 => ?_)
      refine J_lstore_n (pc := 14) dX3_power_14 (by decide) ?_
      refine J_iincL (pc := 15) (n := 1) (by decide) dX3_power_15 rfl (by decide) (fun v2 => ?_)
      refine J_goto (pc := 18) 5 dX3_power_18 rfl ?_
      exact J_sub (A := [some (.long c0), none, some (.int c2), some (.long w2), none, some (.int v2)]) ⟨rfl, ⟨rfl, ⟨rfl, ⟨rfl, trivial⟩⟩⟩⟩ (ih w2 v2 M1)

def m_power (p0 : Int64) (p2 : Int32) (M : PM) : Option (Int64 × PM) :=
    m_power_L5 p0 p2 (fun (w3 : Int64) (M2 : PM) =>
    some (w3, M2)) FU 1 0 M

set_option maxHeartbeats 4000000 in
theorem t_m_power (G : JG) (p0 : Int64) (p2 : Int32) (M : PM) : T_m_power G  M 0 (ent [.long p0, .int p2] 6) [] (m_power p0 p2 M) := by
  unfold m_power
  refine J_lconst (pc := 0) 1 dX3_power_0 (by decide) ?_
  refine J_lstore_n (pc := 1) dX3_power_1 (by decide) ?_
  refine J_iconst (pc := 2) 0 dX3_power_2 (by decide) ?_
  refine J_istore (pc := 3) dX3_power_3 (by decide) ?_
  refine J_sub (A := [some (.long p0), none, some (.int p2), some (.long 1), none, some (.int 0)]) ⟨rfl, ⟨rfl, ⟨rfl, ⟨rfl, trivial⟩⟩⟩⟩ (t_m_power_L5 G p0 p2 _ ?_ FU 1 0 M)
  · intro w3 M2
    refine J_lload_n (pc := 21) dX3_power_21 rfl ?_
    exact J_lret (pc := 22) dX3_power_22

theorem C_m_power (l : Launch) (p0 : Int64) (p2 : Int32) (M : PM) : Ctr l Sh yX3_power cX3_power 6 (some .long) 1 rvL [.long p0, .int p2] M (m_power p0 p2 M) := Ctr.of (by decide +kernel) (Nat.le_of_ble_eq_true rfl) (fun G => t_m_power G p0 p2 M)

abbrev T_m_heard (G : JG) (M : PM) (pc : Nat) (L : List (Option Value)) (S : List Value) (o : Option (Int32 × PM)) : Prop := JJ G cX3_heard yX3_heard 12 141 (some .int) Sh (finR G Sh rvI) M pc L S o
def m_heard_L43 (c1 : Int32) (c2 : Int32) (c3 : Int32) (k118 : Int64 → PM → Option (Int32 × PM)) : Nat → Int64 → Int64 → Int32 → PM → Option (Int32 × PM)
  | 0, _, _, _, _ => none
  | n + 1, w1, w2, v4, M5 =>
    ck c1 10 <|
    if (imin c3 (M5.i 75 (ix c1))) < v4 then (k118 w1 M5)
    else (bd (m_power (Int32.toInt64 (10 - c2)) v4 M5) fun w3 M6 =>
    ck c1 10 <|
    bd (m_power (Int32.toInt64 c2) ((M6.i 75 (ix c1)) - v4) M6) fun w4 M7 =>
    lt (w1 + ((w2 * w3) * w4)) fun w5 =>
    ck c1 10 <|
    ckb (¬ ((Int32.toInt64 (v4 + 1)) : Int64) = 0) <|
    lt ((w2 * (Int32.toInt64 ((M7.i 75 (ix c1)) - v4))) / (Int32.toInt64 (v4 + 1))) fun w6 =>
    lt (v4 + 1) fun v5 =>
    m_heard_L43 c1 c2 c3 k118 n w5 w6 v5 M7)

set_option maxHeartbeats 4000000 in
theorem t_m_heard_L43 (G : JG) (c1 : Int32) (c2 : Int32) (c3 : Int32) (k118 : Int64 → PM → Option (Int32 × PM)) (hk118 : ∀ z4 Me, T_m_heard G  Me 118 [some (.ref 72), some (.int c1), none, none, some (.long z4), none, none, none, none, none, none, none] [] (k118 z4 Me)) : ∀ (n : Nat) (w1 : Int64) (w2 : Int64) (v4 : Int32) (M5 : PM), T_m_heard G  M5 43 [some (.ref 72), some (.int c1), some (.int c2), some (.int c3), some (.long w1), none, some (.long w2), none, some (.int v4), none, none, none] [] (m_heard_L43 c1 c2 c3 k118 n w1 w2 v4 M5) := by
  intro n
  induction n with
  | zero =>
    intro w1 w2 v4 M5
    exact J_none
  | succ n ih =>
    intro w1 w2 v4 M5
    rw [m_heard_L43]
    refine J_iload (pc := 43) dX3_heard_43 rfl ?_
    refine J_iload_n (pc := 45) dX3_heard_45 rfl ?_
    refine J_aload_n (pc := 46) dX3_heard_46 rfl ?_
    refine J_get (pc := 47) (c := 2) (.ref 75) rfl in_X3 4 (by decide) q1111 rfl (fun h => sh_k1 h 52 rfl) (fun h _ => fv_ref (Or.inr ⟨_, rfl⟩) (sh_r h 53 rfl)) dX3_heard_47 ?_
    refine J_iload_n (pc := 50) dX3_heard_50 rfl ?_
    refine J_ck (fun h1 => ?_)
    refine J_iald (pc := 51) (a := 75) (fun h => sh_a h 55 rfl h1) dX3_heard_51 ?_
    refine J_min (pc := 52) (by omega) q1441 q410 q119 q411 (Nat.le_of_ble_eq_true rfl) dX3_heard_52 ?_
    refine J_icmp_gt (pc := 55) 118 dX3_heard_55 rfl (fun h => if_pos h) (fun h => if_neg h) (fun _ => ?_) (fun _ => ?_)
    · exact J_sub (A := [some (.ref 72), some (.int c1), none, none, some (.long w1), none, none, none, none, none, none, none]) ⟨rfl, ⟨rfl, ⟨rfl, trivial⟩⟩⟩ (hk118 w1 M5)
    · refine J_lload (pc := 58) dX3_heard_58 rfl ?_
      refine J_lload (pc := 60) dX3_heard_60 rfl ?_
      refine J_bipush (pc := 62) 10 dX3_heard_62 (by decide) ?_
      refine J_iload_n (pc := 64) dX3_heard_64 rfl ?_
      refine J_isub (pc := 65) dX3_heard_65 ?_
      refine J_i2l (pc := 66) dX3_heard_66 ?_
      refine J_iload (pc := 67) dX3_heard_67 rfl ?_
      refine J_callS (pc := 69) (n := 2) (vs := [.long (Int32.toInt64 (10 - c2)), .int v4]) (fun l => C_m_power l (Int32.toInt64 (10 - c2)) v4 M5) (lw_S q1577 q1578 q118 q1579) nmh_X3_power rfl (by omega) (by decide) rfl (Nat.le_of_ble_eq_true rfl) dX3_heard_69 (fun w3 M6 => ?_)
      refine J_lmul (pc := 72) dX3_heard_72 ?_
      refine J_iload_n (pc := 73) dX3_heard_73 rfl ?_
      refine J_i2l (pc := 74) dX3_heard_74 ?_
      refine J_aload_n (pc := 75) dX3_heard_75 rfl ?_
      refine J_get (pc := 76) (c := 2) (.ref 75) rfl in_X3 4 (by decide) q1111 rfl (fun h => sh_k1 h 52 rfl) (fun h _ => fv_ref (Or.inr ⟨_, rfl⟩) (sh_r h 53 rfl)) dX3_heard_76 ?_
      refine J_iload_n (pc := 79) dX3_heard_79 rfl ?_
      refine J_ck (fun h2 => ?_)
      refine J_iald (pc := 80) (a := 75) (fun h => sh_a h 55 rfl h2) dX3_heard_80 ?_
      refine J_iload (pc := 81) dX3_heard_81 rfl ?_
      refine J_isub (pc := 83) dX3_heard_83 ?_
      refine J_callS (pc := 84) (n := 2) (vs := [.long (Int32.toInt64 c2), .int ((M6.i 75 (ix c1)) - v4)]) (fun l => C_m_power l (Int32.toInt64 c2) ((M6.i 75 (ix c1)) - v4) M6) (lw_S q1577 q1578 q118 q1579) nmh_X3_power rfl (by omega) (by decide) rfl (Nat.le_of_ble_eq_true rfl) dX3_heard_84 (fun w4 M7 => ?_)
      refine J_lmul (pc := 87) dX3_heard_87 ?_
      refine J_ladd (pc := 88) dX3_heard_88 ?_
      refine J_lt (β := Int64) (v := (w1 + ((w2 * w3) * w4))) (L := fun _ => _) (S := fun w5 => [.long w5]) (fun w5 => ?_)
      refine J_lstore (pc := 89) dX3_heard_89 (by decide) ?_
      refine J_lload (pc := 91) dX3_heard_91 rfl ?_
      refine J_aload_n (pc := 93) dX3_heard_93 rfl ?_
      refine J_get (pc := 94) (c := 2) (.ref 75) rfl in_X3 4 (by decide) q1111 rfl (fun h => sh_k1 h 52 rfl) (fun h _ => fv_ref (Or.inr ⟨_, rfl⟩) (sh_r h 53 rfl)) dX3_heard_94 ?_
      refine J_iload_n (pc := 97) dX3_heard_97 rfl ?_
      refine J_ck (fun h3 => ?_)
      refine J_iald (pc := 98) (a := 75) (fun h => sh_a h 55 rfl h3) dX3_heard_98 ?_
      refine J_iload (pc := 99) dX3_heard_99 rfl ?_
      refine J_isub (pc := 101) dX3_heard_101 ?_
      refine J_i2l (pc := 102) dX3_heard_102 ?_
      refine J_lmul (pc := 103) dX3_heard_103 ?_
      refine J_iload (pc := 104) dX3_heard_104 rfl ?_
      refine J_iconst (pc := 106) 1 dX3_heard_106 (by decide) ?_
      refine J_iadd (pc := 107) dX3_heard_107 ?_
      refine J_i2l (pc := 108) dX3_heard_108 ?_
      refine J_ckb (fun h4 => ?_)
      refine J_ldiv (pc := 109) dX3_heard_109 h4 ?_
      refine J_lt (β := Int64) (v := ((w2 * (Int32.toInt64 ((M7.i 75 (ix c1)) - v4))) / (Int32.toInt64 (v4 + 1)))) (L := fun _ => _) (S := fun w6 => [.long w6]) (fun w6 => ?_)
      refine J_lstore (pc := 110) dX3_heard_110 (by decide) ?_
      refine J_iincL (pc := 112) (n := 1) (by decide) dX3_heard_112 rfl (by decide) (fun v5 => ?_)
      refine J_goto (pc := 115) 43 dX3_heard_115 rfl ?_
      exact J_sub (A := [some (.ref 72), some (.int c1), some (.int c2), some (.int c3), some (.long w5), none, some (.long w6), none, some (.int v5), none, none, none]) ⟨rfl, ⟨rfl, ⟨rfl, ⟨rfl, ⟨rfl, ⟨rfl, ⟨rfl, trivial⟩⟩⟩⟩⟩⟩⟩ (ih w5 w6 v5 M7)

def m_heard (p1 : Int32) (p2 : Int32) (p3 : Int32) (M : PM) : Option (Int32 × PM) :=
    lt (M.si 72 13 0) fun M1 =>
    bd (m_isWord p1 M1) fun v1 M2 =>
    if v1 = 0 then (some ((-1), M2))
    else (bd (m_in p2 0 10 M2) fun v2 M3 =>
    if v2 = 0 then (some ((-1), M3))
    else (bd (m_in p3 0 2 M3) fun v3 M4 =>
    if v3 = 0 then (some ((-1), M4))
    else (m_heard_L43 p1 p2 p3 (fun (w7 : Int64) (M8 : PM) =>
    ck p1 10 <|
    bd (m_power 10 (M8.i 75 (ix p1)) M8) fun w8 M9 =>
    bd (m_common w7 w8 M9) fun w9 M10 =>
    lt (M10.si 72 12 0) fun M11 =>
    ckb (¬ (w9 : Int64) = 0) <|
    bd (m_tell (w7 / w9) M11) fun _ M12 =>
    ckb (¬ (w9 : Int64) = 0) <|
    bd (m_tell (w8 / w9) M12) fun _ M13 =>
    some (0, M13)) FU 0 1 0 M4)))

set_option maxHeartbeats 4000000 in
theorem t_m_heard (G : JG) (p1 : Int32) (p2 : Int32) (p3 : Int32) (M : PM) : T_m_heard G  M 0 (ent [.ref 72, .int p1, .int p2, .int p3] 12) [] (m_heard p1 p2 p3 M) := by
  unfold m_heard
  refine J_aload_n (pc := 0) dX3_heard_0 rfl ?_
  refine J_iconst (pc := 1) 0 dX3_heard_1 (by decide) ?_
  refine J_put (pc := 2) (a := 72) (v := .int 0) (M' := M.si 72 13 0) (c := 2) rfl in_X3 tyX3_ok fnX3 13 (by decide) q1120 rfl (Or.inl rfl) (fun h => sh_k1 h 52 rfl) (fun _ => rfl) (fun _ => rfl) ⟨⟨rfl, rfl⟩, rfl⟩ (fun _ hb => up2_same hb) (fun _ _ => rfl) (fun _ _ => rfl) (put_i (fun _ _ _ => rfl)) (fun h => Sh_si h) dX3_heard_2 ?_
  refine J_ltM (fun M1 => ?_)
  refine J_aload_n (pc := 5) dX3_heard_5 rfl ?_
  refine J_iload_n (pc := 6) dX3_heard_6 rfl ?_
  refine J_callV (pc := 7) (n := 1) (b := 72) (vs := [.int p1]) (ci := 2) (fun l => C_m_isWord l p1 M1) (lw_V q1383 q1385 qs76 q118 q1386) nmv_X3_isWord rfl (by omega) (by decide) rfl (fun h => sh_k1 h 52 rfl) rfl (Nat.le_of_ble_eq_true rfl) dX3_heard_7 (fun v1 M2 => ?_)
  refine J_if_eq (pc := 10) 32 dX3_heard_10 rfl (fun h => if_pos h) (fun h => if_neg h) (fun _ => ?_) (fun _ => ?_)
  · refine J_iconst (pc := 32) (-1) dX3_heard_32 (by decide) ?_
    exact J_iret (pc := 33) dX3_heard_33
  · refine J_iload_n (pc := 13) dX3_heard_13 rfl ?_
    refine J_iconst (pc := 14) 0 dX3_heard_14 (by decide) ?_
    refine J_bipush (pc := 15) 10 dX3_heard_15 (by decide) ?_
    refine J_callS (pc := 17) (n := 3) (vs := [.int p2, .int 0, .int 10]) (fun l => C_m_in l p2 0 10 M2) (lw_S q1289 q1290 q118 q1291) nmh_X3_in rfl (by omega) (by decide) rfl (Nat.le_of_ble_eq_true rfl) dX3_heard_17 (fun v2 M3 => ?_)
    refine J_if_eq (pc := 20) 32 dX3_heard_20 rfl (fun h => if_pos h) (fun h => if_neg h) (fun _ => ?_) (fun _ => ?_)
    · refine J_iconst (pc := 32) (-1) dX3_heard_32 (by decide) ?_
      exact J_iret (pc := 33) dX3_heard_33
    · refine J_iload_n (pc := 23) dX3_heard_23 rfl ?_
      refine J_iconst (pc := 24) 0 dX3_heard_24 (by decide) ?_
      refine J_iconst (pc := 25) 2 dX3_heard_25 (by decide) ?_
      refine J_callS (pc := 26) (n := 3) (vs := [.int p3, .int 0, .int 2]) (fun l => C_m_in l p3 0 2 M3) (lw_S q1289 q1290 q118 q1291) nmh_X3_in rfl (by omega) (by decide) rfl (Nat.le_of_ble_eq_true rfl) dX3_heard_26 (fun v3 M4 => ?_)
      refine J_if_ne (pc := 29) 34 dX3_heard_29 rfl (fun h => if_neg h) (fun h => if_pos h) (fun _ => ?_) (fun _ => ?_)
      · refine J_lconst (pc := 34) 0 dX3_heard_34 (by decide) ?_
        refine J_lstore (pc := 35) dX3_heard_35 (by decide) ?_
        refine J_lconst (pc := 37) 1 dX3_heard_37 (by decide) ?_
        refine J_lstore (pc := 38) dX3_heard_38 (by decide) ?_
        refine J_iconst (pc := 40) 0 dX3_heard_40 (by decide) ?_
        refine J_istore (pc := 41) dX3_heard_41 (by decide) ?_
        refine J_sub (A := [some (.ref 72), some (.int p1), some (.int p2), some (.int p3), some (.long 0), none, some (.long 1), none, some (.int 0), none, none, none]) ⟨rfl, ⟨rfl, ⟨rfl, ⟨rfl, ⟨rfl, ⟨rfl, ⟨rfl, trivial⟩⟩⟩⟩⟩⟩⟩ (t_m_heard_L43 G p1 p2 p3 _ ?_ FU 0 1 0 M4)
        · intro w7 M8
          refine J_ldc2 (pc := 118) 10 q1580 dX3_heard_118 ?_
          refine J_aload_n (pc := 121) dX3_heard_121 rfl ?_
          refine J_get (pc := 122) (c := 2) (.ref 75) rfl in_X3 4 (by decide) q1111 rfl (fun h => sh_k1 h 52 rfl) (fun h _ => fv_ref (Or.inr ⟨_, rfl⟩) (sh_r h 53 rfl)) dX3_heard_122 ?_
          refine J_iload_n (pc := 125) dX3_heard_125 rfl ?_
          refine J_ck (fun h5 => ?_)
          refine J_iald (pc := 126) (a := 75) (fun h => sh_a h 55 rfl h5) dX3_heard_126 ?_
          refine J_callS (pc := 127) (n := 2) (vs := [.long 10, .int (M8.i 75 (ix p1))]) (fun l => C_m_power l 10 (M8.i 75 (ix p1)) M8) (lw_S q1577 q1578 q118 q1579) nmh_X3_power rfl (by omega) (by decide) rfl (Nat.le_of_ble_eq_true rfl) dX3_heard_127 (fun w8 M9 => ?_)
          refine J_lstore (pc := 130) dX3_heard_130 (by decide) ?_
          refine J_lload (pc := 132) dX3_heard_132 rfl ?_
          refine J_lload (pc := 134) dX3_heard_134 rfl ?_
          refine J_callS (pc := 136) (n := 2) (vs := [.long w7, .long w8]) (fun l => C_m_common l w7 w8 M9) (lw_S q1581 q1582 q118 q1583) nmh_X3_common rfl (by omega) (by decide) rfl (Nat.le_of_ble_eq_true rfl) dX3_heard_136 (fun w9 M10 => ?_)
          refine J_lstore (pc := 139) dX3_heard_139 (by decide) ?_
          refine J_aload_n (pc := 141) dX3_heard_141 rfl ?_
          refine J_iconst (pc := 142) 0 dX3_heard_142 (by decide) ?_
          refine J_put (pc := 143) (a := 72) (v := .int 0) (M' := M10.si 72 12 0) (c := 2) rfl in_X3 tyX3_ok fnX3 12 (by decide) q1119 rfl (Or.inl rfl) (fun h => sh_k1 h 52 rfl) (fun _ => rfl) (fun _ => rfl) ⟨⟨rfl, rfl⟩, rfl⟩ (fun _ hb => up2_same hb) (fun _ _ => rfl) (fun _ _ => rfl) (put_i (fun _ _ _ => rfl)) (fun h => Sh_si h) dX3_heard_143 ?_
          refine J_ltM (fun M11 => ?_)
          refine J_aload_n (pc := 146) dX3_heard_146 rfl ?_
          refine J_lload (pc := 147) dX3_heard_147 rfl ?_
          refine J_lload (pc := 149) dX3_heard_149 rfl ?_
          refine J_ckb (fun h6 => ?_)
          refine J_ldiv (pc := 151) dX3_heard_151 h6 ?_
          refine J_callV (pc := 152) (n := 1) (b := 72) (vs := [.long (w7 / w9)]) (ci := 2) (fun l => C_m_tell l (w7 / w9) M11) (lw_V q1455 q1457 qs87 q118 q1458) nmv_X3_tell rfl (by omega) (by decide) rfl (fun h => sh_k1 h 52 rfl) rfl (Nat.le_of_ble_eq_true rfl) dX3_heard_152 (fun _ M12 => ?_)
          refine J_aload_n (pc := 155) dX3_heard_155 rfl ?_
          refine J_lload (pc := 156) dX3_heard_156 rfl ?_
          refine J_lload (pc := 158) dX3_heard_158 rfl ?_
          refine J_ckb (fun h7 => ?_)
          refine J_ldiv (pc := 160) dX3_heard_160 h7 ?_
          refine J_callV (pc := 161) (n := 1) (b := 72) (vs := [.long (w8 / w9)]) (ci := 2) (fun l => C_m_tell l (w8 / w9) M12) (lw_V q1455 q1457 qs87 q118 q1458) nmv_X3_tell rfl (by omega) (by decide) rfl (fun h => sh_k1 h 52 rfl) rfl (Nat.le_of_ble_eq_true rfl) dX3_heard_161 (fun _ M13 => ?_)
          refine J_iconst (pc := 164) 0 dX3_heard_164 (by decide) ?_
          exact J_iret (pc := 165) dX3_heard_165
      · refine J_iconst (pc := 32) (-1) dX3_heard_32 (by decide) ?_
        exact J_iret (pc := 33) dX3_heard_33

theorem C_m_heard (l : Launch) (p1 : Int32) (p2 : Int32) (p3 : Int32) (M : PM) : Ctr l Sh yX3_heard cX3_heard 12 (some .int) 141 rvI [.ref 72, .int p1, .int p2, .int p3] M (m_heard p1 p2 p3 M) := Ctr.of (by decide +kernel) (Nat.le_of_ble_eq_true rfl) (fun G => t_m_heard G p1 p2 p3 M)

abbrev T_m_areApart (G : JG) (M : PM) (pc : Nat) (L : List (Option Value)) (S : List Value) (o : Option (Int32 × PM)) : Prop := JJ G cX3_areApart yX3_areApart 5 4 (some .boolean) Sh (finR G Sh rvI) M pc L S o
def m_areApart_L13 (c1 : Int32) (c2 : Int32) (c3 : Int32) (k56 : PM → Option (Int32 × PM)) : Nat → Int32 → PM → Option (Int32 × PM)
  | 0, _, _ => none
  | n + 1, v2, M2 =>
    if c3 ≤ v2 then (k56 M2)
    else (bd (m_has c1 c3 M2) fun v3 M3 =>
    jn (fun (M4 : PM) =>
    lt (v2 + 1) fun v4 =>
    m_areApart_L13 c1 c2 c3 k56 n v4 M4) fun j1 =>
    if v3 = 0 then (j1 M3)
    else (bd (m_has c1 v2 M3) fun v5 M5 =>
    if v5 = 0 then (j1 M5)
    else (bd (m_differBy c3 v2 0 M5) fun v6 M6 =>
    if c2 ≤ v6 then (j1 M6)
    else (some (0, M6)))))

set_option maxHeartbeats 4000000 in
theorem t_m_areApart_L13 (G : JG) (c1 : Int32) (c2 : Int32) (c3 : Int32) (k56 : PM → Option (Int32 × PM)) (hk56 : ∀ Me, T_m_areApart G  Me 56 [some (.ref 72), some (.int c1), some (.int c2), some (.int c3), none] [] (k56 Me)) : ∀ (n : Nat) (v2 : Int32) (M2 : PM), T_m_areApart G  M2 13 [some (.ref 72), some (.int c1), some (.int c2), some (.int c3), some (.int v2)] [] (m_areApart_L13 c1 c2 c3 k56 n v2 M2) := by
  intro n
  induction n with
  | zero =>
    intro v2 M2
    exact J_none
  | succ n ih =>
    intro v2 M2
    rw [m_areApart_L13]
    refine J_iload (pc := 13) dX3_areApart_13 rfl ?_
    refine J_iload_n (pc := 15) dX3_areApart_15 rfl ?_
    refine J_icmp_ge (pc := 16) 56 dX3_areApart_16 rfl (fun h => if_pos h) (fun h => if_neg h) (fun _ => ?_) (fun _ => ?_)
    · exact J_sub (A := [some (.ref 72), some (.int c1), some (.int c2), some (.int c3), none]) ⟨rfl, ⟨rfl, ⟨rfl, ⟨rfl, trivial⟩⟩⟩⟩ (hk56 M2)
    · refine J_iload_n (pc := 19) dX3_areApart_19 rfl ?_
      refine J_iload_n (pc := 20) dX3_areApart_20 rfl ?_
      refine J_callS (pc := 21) (n := 2) (vs := [.int c1, .int c3]) (fun l => C_m_has l c1 c3 M2) (lw_S q1422 q1423 q118 q1424) nmh_X3_has rfl (by omega) (by decide) rfl (Nat.le_of_ble_eq_true rfl) dX3_areApart_21 (fun v3 M3 => ?_)
      refine J_jn (P := fun J => ∀ (M4 : PM), T_m_areApart G  M4 50 [some (.ref 72), some (.int c1), some (.int c2), some (.int c3), some (.int v2)] [] (J M4)) (fun M4 => ?_) (fun j1 hj1 => ?_)
      · refine J_iincL (pc := 50) (n := 1) (by decide) dX3_areApart_50 rfl (by decide) (fun v4 => ?_)
        refine J_goto (pc := 53) 13 dX3_areApart_53 rfl ?_
        exact J_sub (A := [some (.ref 72), some (.int c1), some (.int c2), some (.int c3), some (.int v4)]) ⟨rfl, ⟨rfl, ⟨rfl, ⟨rfl, ⟨rfl, trivial⟩⟩⟩⟩⟩ (ih v4 M4)
      refine J_if_eq (pc := 24) 50 dX3_areApart_24 rfl (fun h => if_pos h) (fun h => if_neg h) (fun _ => ?_) (fun _ => ?_)
      · exact J_sub (A := [some (.ref 72), some (.int c1), some (.int c2), some (.int c3), some (.int v2)]) ⟨rfl, ⟨rfl, ⟨rfl, ⟨rfl, ⟨rfl, trivial⟩⟩⟩⟩⟩ (hj1 M3)
      · refine J_iload_n (pc := 27) dX3_areApart_27 rfl ?_
        refine J_iload (pc := 28) dX3_areApart_28 rfl ?_
        refine J_callS (pc := 30) (n := 2) (vs := [.int c1, .int v2]) (fun l => C_m_has l c1 v2 M3) (lw_S q1422 q1423 q118 q1424) nmh_X3_has rfl (by omega) (by decide) rfl (Nat.le_of_ble_eq_true rfl) dX3_areApart_30 (fun v5 M5 => ?_)
        refine J_if_eq (pc := 33) 50 dX3_areApart_33 rfl (fun h => if_pos h) (fun h => if_neg h) (fun _ => ?_) (fun _ => ?_)
        · exact J_sub (A := [some (.ref 72), some (.int c1), some (.int c2), some (.int c3), some (.int v2)]) ⟨rfl, ⟨rfl, ⟨rfl, ⟨rfl, ⟨rfl, trivial⟩⟩⟩⟩⟩ (hj1 M5)
        · refine J_aload_n (pc := 36) dX3_areApart_36 rfl ?_
          refine J_iload_n (pc := 37) dX3_areApart_37 rfl ?_
          refine J_iload (pc := 38) dX3_areApart_38 rfl ?_
          refine J_iconst (pc := 40) 0 dX3_areApart_40 (by decide) ?_
          refine J_callV (pc := 41) (n := 3) (b := 72) (vs := [.int c3, .int v2, .int 0]) (ci := 2) (fun l => C_m_differBy l c3 v2 0 M5) (lw_V q1553 q1555 qs98 q118 q1556) nmv_X3_differBy rfl (by omega) (by decide) rfl (fun h => sh_k1 h 52 rfl) rfl (Nat.le_of_ble_eq_true rfl) dX3_areApart_41 (fun v6 M6 => ?_)
          refine J_iload_n (pc := 44) dX3_areApart_44 rfl ?_
          refine J_icmp_ge (pc := 45) 50 dX3_areApart_45 rfl (fun h => if_pos h) (fun h => if_neg h) (fun _ => ?_) (fun _ => ?_)
          · exact J_sub (A := [some (.ref 72), some (.int c1), some (.int c2), some (.int c3), some (.int v2)]) ⟨rfl, ⟨rfl, ⟨rfl, ⟨rfl, ⟨rfl, trivial⟩⟩⟩⟩⟩ (hj1 M6)
          · refine J_iconst (pc := 48) 0 dX3_areApart_48 (by decide) ?_
            exact J_zret (pc := 49) rfl dX3_areApart_49

def m_areApart_L2 (c1 : Int32) (c2 : Int32) : Nat → Int32 → PM → Option (Int32 × PM)
  | 0, _, _ => none
  | n + 1, v1, M1 =>
    if (M1.i 72 2) ≤ v1 then (some (1, M1))
    else (m_areApart_L13 c1 c2 v1 (fun (M7 : PM) =>
    lt (v1 + 1) fun v7 =>
    m_areApart_L2 c1 c2 n v7 M7) FU 0 M1)

set_option maxHeartbeats 4000000 in
theorem t_m_areApart_L2 (G : JG) (c1 : Int32) (c2 : Int32) : ∀ (n : Nat) (v1 : Int32) (M1 : PM), T_m_areApart G  M1 2 [some (.ref 72), some (.int c1), some (.int c2), some (.int v1), none] [] (m_areApart_L2 c1 c2 n v1 M1) := by
  intro n
  induction n with
  | zero =>
    intro v1 M1
    exact J_none
  | succ n ih =>
    intro v1 M1
    rw [m_areApart_L2]
    refine J_iload_n (pc := 2) dX3_areApart_2 rfl ?_
    refine J_aload_n (pc := 3) dX3_areApart_3 rfl ?_
    refine J_get (pc := 4) (c := 2) (.int (M1.i 72 2)) rfl in_X3 2 (by decide) q1109 rfl (fun h => sh_k1 h 52 rfl) (fun _ _ => rfl) dX3_areApart_4 ?_
    refine J_icmp_ge (pc := 7) 62 dX3_areApart_7 rfl (fun h => if_pos h) (fun h => if_neg h) (fun _ => ?_) (fun _ => ?_)
    · refine J_iconst (pc := 62) 1 dX3_areApart_62 (by decide) ?_
      exact J_zret (pc := 63) rfl dX3_areApart_63
    · refine J_iconst (pc := 10) 0 dX3_areApart_10 (by decide) ?_
      refine J_istore (pc := 11) dX3_areApart_11 (by decide) ?_
      refine J_sub (A := [some (.ref 72), some (.int c1), some (.int c2), some (.int v1), some (.int 0)]) ⟨rfl, ⟨rfl, ⟨rfl, ⟨rfl, ⟨rfl, trivial⟩⟩⟩⟩⟩ (t_m_areApart_L13 G c1 c2 v1 _ ?_ FU 0 M1)
      · intro M7
        refine J_iincL (pc := 56) (n := 1) (by decide) dX3_areApart_56 rfl (by decide) (fun v7 => ?_)
        refine J_goto (pc := 59) 2 dX3_areApart_59 rfl ?_
        exact J_sub (A := [some (.ref 72), some (.int c1), some (.int c2), some (.int v7), none]) ⟨rfl, ⟨rfl, ⟨rfl, ⟨rfl, trivial⟩⟩⟩⟩ (ih v7 M7)

def m_areApart (p1 : Int32) (p2 : Int32) (M : PM) : Option (Int32 × PM) :=
    m_areApart_L2 p1 p2 FU 0 M

set_option maxHeartbeats 4000000 in
theorem t_m_areApart (G : JG) (p1 : Int32) (p2 : Int32) (M : PM) : T_m_areApart G  M 0 (ent [.ref 72, .int p1, .int p2] 5) [] (m_areApart p1 p2 M) := by
  unfold m_areApart
  refine J_iconst (pc := 0) 0 dX3_areApart_0 (by decide) ?_
  refine J_istore_n (pc := 1) dX3_areApart_1 (by decide) ?_
  refine J_sub (A := [some (.ref 72), some (.int p1), some (.int p2), some (.int 0), none]) ⟨rfl, ⟨rfl, ⟨rfl, ⟨rfl, trivial⟩⟩⟩⟩ (t_m_areApart_L2 G p1 p2  FU 0 M)

theorem C_m_areApart (l : Launch) (p1 : Int32) (p2 : Int32) (M : PM) : Ctr l Sh yX3_areApart cX3_areApart 5 (some .boolean) 4 rvI [.ref 72, .int p1, .int p2] M (m_areApart p1 p2 M) := Ctr.of (by decide +kernel) (Nat.le_of_ble_eq_true rfl) (fun G => t_m_areApart G p1 p2 M)

abbrev T_m_tollsOf (G : JG) (M : PM) (pc : Nat) (L : List (Option Value)) (S : List Value) (o : Option (Int32 × PM)) : Prop := JJ G cX3_tollsOf yX3_tollsOf 5 143 (some .int) Sh (finR G Sh rvI) M pc L S o
def m_tollsOf_L5 (c1 : Int32) (c2 : Int32) : Nat → Int32 → Int32 → PM → Option (Int32 × PM)
  | 0, _, _, _ => none
  | n + 1, v1, v2, M1 =>
    if (M1.i 72 2) ≤ v2 then (some (v1, M1))
    else (bd (m_has c1 v2 M1) fun v3 M2 =>
    jn (fun (v4 : Int32) (M3 : PM) =>
    lt (v1 + v4) fun v5 =>
    lt (v2 + 1) fun v6 =>
    m_tollsOf_L5 c1 c2 n v5 v6 M3) fun j1 =>
    if v3 = 0 then (j1 0 M2)
    else (bd (m_tollNow v2 c2 M2) fun v7 M4 =>
    j1 v7 M4))

set_option maxHeartbeats 4000000 in
theorem t_m_tollsOf_L5 (G : JG) (c1 : Int32) (c2 : Int32) : ∀ (n : Nat) (v1 : Int32) (v2 : Int32) (M1 : PM), T_m_tollsOf G  M1 5 [some (.ref 72), some (.int c1), some (.int c2), some (.int v1), some (.int v2)] [] (m_tollsOf_L5 c1 c2 n v1 v2 M1) := by
  intro n
  induction n with
  | zero =>
    intro v1 v2 M1
    exact J_none
  | succ n ih =>
    intro v1 v2 M1
    rw [m_tollsOf_L5]
    refine J_iload (pc := 5) dX3_tollsOf_5 rfl ?_
    refine J_aload_n (pc := 7) dX3_tollsOf_7 rfl ?_
    refine J_get (pc := 8) (c := 2) (.int (M1.i 72 2)) rfl in_X3 2 (by decide) q1109 rfl (fun h => sh_k1 h 52 rfl) (fun _ _ => rfl) dX3_tollsOf_8 ?_
    refine J_icmp_ge (pc := 11) 43 dX3_tollsOf_11 rfl (fun h => if_pos h) (fun h => if_neg h) (fun _ => ?_) (fun _ => ?_)
    · refine J_iload_n (pc := 43) dX3_tollsOf_43 rfl ?_
      exact J_iret (pc := 44) dX3_tollsOf_44
    · refine J_iload_n (pc := 14) dX3_tollsOf_14 rfl ?_
      refine J_iload_n (pc := 15) dX3_tollsOf_15 rfl ?_
      refine J_iload (pc := 16) dX3_tollsOf_16 rfl ?_
      refine J_callS (pc := 18) (n := 2) (vs := [.int c1, .int v2]) (fun l => C_m_has l c1 v2 M1) (lw_S q1422 q1423 q118 q1424) nmh_X3_has rfl (by omega) (by decide) rfl (Nat.le_of_ble_eq_true rfl) dX3_tollsOf_18 (fun v3 M2 => ?_)
      refine J_jn (P := fun J => ∀ (v4 : Int32) (M3 : PM), T_m_tollsOf G  M3 35 [some (.ref 72), some (.int c1), some (.int c2), none, some (.int v2)] [.int v4, .int v1] (J v4 M3)) (fun v4 M3 => ?_) (fun j1 hj1 => ?_)
      · refine J_iadd (pc := 35) dX3_tollsOf_35 ?_
        refine J_lt (β := Int32) (v := (v1 + v4)) (L := fun _ => _) (S := fun v5 => [.int v5]) (fun v5 => ?_)
        refine J_istore_n (pc := 36) dX3_tollsOf_36 (by decide) ?_
        refine J_iincL (pc := 37) (n := 1) (by decide) dX3_tollsOf_37 rfl (by decide) (fun v6 => ?_)
        refine J_goto (pc := 40) 5 dX3_tollsOf_40 rfl ?_
        exact J_sub (A := [some (.ref 72), some (.int c1), some (.int c2), some (.int v5), some (.int v6)]) ⟨rfl, ⟨rfl, ⟨rfl, ⟨rfl, ⟨rfl, trivial⟩⟩⟩⟩⟩ (ih v5 v6 M3)
      refine J_if_eq (pc := 21) 34 dX3_tollsOf_21 rfl (fun h => if_pos h) (fun h => if_neg h) (fun _ => ?_) (fun _ => ?_)
      · refine J_iconst (pc := 34) 0 dX3_tollsOf_34 (by decide) ?_
        exact J_sub (A := [some (.ref 72), some (.int c1), some (.int c2), none, some (.int v2)]) ⟨rfl, ⟨rfl, ⟨rfl, ⟨rfl, trivial⟩⟩⟩⟩ (hj1 0 M2)
      · refine J_aload_n (pc := 24) dX3_tollsOf_24 rfl ?_
        refine J_iload (pc := 25) dX3_tollsOf_25 rfl ?_
        refine J_iload_n (pc := 27) dX3_tollsOf_27 rfl ?_
        refine J_callV (pc := 28) (n := 2) (b := 72) (vs := [.int v2, .int c2]) (ci := 2) (fun l => C_m_tollNow l v2 c2 M2) (lw_V q1447 q1449 qs85 q118 q1450) nmv_X3_tollNow rfl (by omega) (by decide) rfl (fun h => sh_k1 h 52 rfl) rfl (Nat.le_of_ble_eq_true rfl) dX3_tollsOf_28 (fun v7 M4 => ?_)
        refine J_goto (pc := 31) 35 dX3_tollsOf_31 rfl ?_
        exact J_sub (A := [some (.ref 72), some (.int c1), some (.int c2), none, some (.int v2)]) ⟨rfl, ⟨rfl, ⟨rfl, ⟨rfl, trivial⟩⟩⟩⟩ (hj1 v7 M4)

def m_tollsOf (p1 : Int32) (p2 : Int32) (M : PM) : Option (Int32 × PM) :=
    m_tollsOf_L5 p1 p2 FU 0 0 M

set_option maxHeartbeats 4000000 in
theorem t_m_tollsOf (G : JG) (p1 : Int32) (p2 : Int32) (M : PM) : T_m_tollsOf G  M 0 (ent [.ref 72, .int p1, .int p2] 5) [] (m_tollsOf p1 p2 M) := by
  unfold m_tollsOf
  refine J_iconst (pc := 0) 0 dX3_tollsOf_0 (by decide) ?_
  refine J_istore_n (pc := 1) dX3_tollsOf_1 (by decide) ?_
  refine J_iconst (pc := 2) 0 dX3_tollsOf_2 (by decide) ?_
  refine J_istore (pc := 3) dX3_tollsOf_3 (by decide) ?_
  refine J_sub (A := [some (.ref 72), some (.int p1), some (.int p2), some (.int 0), some (.int 0)]) ⟨rfl, ⟨rfl, ⟨rfl, ⟨rfl, ⟨rfl, trivial⟩⟩⟩⟩⟩ (t_m_tollsOf_L5 G p1 p2  FU 0 0 M)

theorem C_m_tollsOf (l : Launch) (p1 : Int32) (p2 : Int32) (M : PM) : Ctr l Sh yX3_tollsOf cX3_tollsOf 5 (some .int) 143 rvI [.ref 72, .int p1, .int p2] M (m_tollsOf p1 p2 M) := Ctr.of (by decide +kernel) (Nat.le_of_ble_eq_true rfl) (fun G => t_m_tollsOf G p1 p2 M)

abbrev T_m_code (G : JG) (M : PM) (pc : Nat) (L : List (Option Value)) (S : List Value) (o : Option (Int32 × PM)) : Prop := JJ G cX3_code yX3_code 5 144 (some .int) Sh (finR G Sh rvI) M pc L S o
def m_code_L21 (c1 : Int32) (k87 : Int32 → PM → Option (Int32 × PM)) : Nat → Int32 → Int32 → PM → Option (Int32 × PM)
  | 0, _, _, _ => none
  | n + 1, v2, v3, M3 =>
    if (1 <<< ((M3.i 72 2) &&& 31)) ≤ v3 then (k87 v2 M3)
    else (bd (jl_bitCount v3 M3) fun v4 M4 =>
    bd (jl_bitCount v2 M4) fun v5 M5 =>
    lt (v4 - v5) fun v6 =>
    jn (fun (v7 : Int32) (M6 : PM) =>
    lt (v3 + 1) fun v8 =>
    m_code_L21 c1 k87 n v7 v8 M6) fun j1 =>
    if v6 < 0 then (j1 v2 M5)
    else (jn (fun (M7 : PM) =>
    bd (m_areApart v3 c1 M7) fun v9 M8 =>
    if v9 = 0 then (j1 v2 M8)
    else (j1 v3 M8)) fun j2 =>
    if v6 = 0 then (bd (m_tollsOf v3 0 M5) fun v10 M9 =>
    bd (m_tollsOf v2 0 M9) fun v11 M10 =>
    if v11 ≤ v10 then (j1 v2 M10)
    else (j2 M10))
    else (j2 M5)))

set_option maxHeartbeats 4000000 in
theorem t_m_code_L21 (G : JG) (c1 : Int32) (k87 : Int32 → PM → Option (Int32 × PM)) (hk87 : ∀ z2 Me, T_m_code G  Me 87 [some (.ref 72), none, some (.int z2), none, none] [] (k87 z2 Me)) : ∀ (n : Nat) (v2 : Int32) (v3 : Int32) (M3 : PM), T_m_code G  M3 21 [some (.ref 72), some (.int c1), some (.int v2), some (.int v3), none] [] (m_code_L21 c1 k87 n v2 v3 M3) := by
  intro n
  induction n with
  | zero =>
    intro v2 v3 M3
    exact J_none
  | succ n ih =>
    intro v2 v3 M3
    rw [m_code_L21]
    refine J_iload_n (pc := 21) dX3_code_21 rfl ?_
    refine J_iconst (pc := 22) 1 dX3_code_22 (by decide) ?_
    refine J_aload_n (pc := 23) dX3_code_23 rfl ?_
    refine J_get (pc := 24) (c := 2) (.int (M3.i 72 2)) rfl in_X3 2 (by decide) q1109 rfl (fun h => sh_k1 h 52 rfl) (fun _ _ => rfl) dX3_code_24 ?_
    refine J_ishl (pc := 27) dX3_code_27 ?_
    refine J_icmp_ge (pc := 28) 87 dX3_code_28 rfl (fun h => if_pos h) (fun h => if_neg h) (fun _ => ?_) (fun _ => ?_)
    · exact J_sub (A := [some (.ref 72), none, some (.int v2), none, none]) ⟨rfl, ⟨rfl, trivial⟩⟩ (hk87 v2 M3)
    · refine J_iload_n (pc := 31) dX3_code_31 rfl ?_
      refine J_callS (pc := 32) (n := 1) (vs := [.int v3]) (fun l => C_jl_bitCount l v3 M3) (lw_S q1588 q867 q135 q868) nmh_J10_bitCount rfl (by omega) (by decide) rfl (Nat.le_of_ble_eq_true rfl) dX3_code_32 (fun v4 M4 => ?_)
      refine J_iload_n (pc := 35) dX3_code_35 rfl ?_
      refine J_callS (pc := 36) (n := 1) (vs := [.int v2]) (fun l => C_jl_bitCount l v2 M4) (lw_S q1588 q867 q135 q868) nmh_J10_bitCount rfl (by omega) (by decide) rfl (Nat.le_of_ble_eq_true rfl) dX3_code_36 (fun v5 M5 => ?_)
      refine J_isub (pc := 39) dX3_code_39 ?_
      refine J_lt (β := Int32) (v := (v4 - v5)) (L := fun _ => _) (S := fun v6 => [.int v6]) (fun v6 => ?_)
      refine J_istore (pc := 40) dX3_code_40 (by decide) ?_
      refine J_iload (pc := 42) dX3_code_42 rfl ?_
      refine J_jn (P := fun J => ∀ (v7 : Int32) (M6 : PM), T_m_code G  M6 81 [some (.ref 72), some (.int c1), some (.int v7), some (.int v3), none] [] (J v7 M6)) (fun v7 M6 => ?_) (fun j1 hj1 => ?_)
      · refine J_iincL (pc := 81) (n := 1) (by decide) dX3_code_81 rfl (by decide) (fun v8 => ?_)
        refine J_goto (pc := 84) 21 dX3_code_84 rfl ?_
        exact J_sub (A := [some (.ref 72), some (.int c1), some (.int v7), some (.int v8), none]) ⟨rfl, ⟨rfl, ⟨rfl, ⟨rfl, trivial⟩⟩⟩⟩ (ih v7 v8 M6)
      refine J_if_lt (pc := 44) 81 dX3_code_44 rfl (fun h => if_pos h) (fun h => if_neg h) (fun _ => ?_) (fun _ => ?_)
      · exact J_sub (A := [some (.ref 72), some (.int c1), some (.int v2), some (.int v3), none]) ⟨rfl, ⟨rfl, ⟨rfl, ⟨rfl, trivial⟩⟩⟩⟩ (hj1 v2 M5)
      · refine J_iload (pc := 47) dX3_code_47 rfl ?_
        refine J_jn (P := fun J => ∀ (M7 : PM), T_m_code G  M7 67 [some (.ref 72), some (.int c1), some (.int v2), some (.int v3), none] [] (J M7)) (fun M7 => ?_) (fun j2 hj2 => ?_)
        · refine J_aload_n (pc := 67) dX3_code_67 rfl ?_
          refine J_iload_n (pc := 68) dX3_code_68 rfl ?_
          refine J_iload_n (pc := 69) dX3_code_69 rfl ?_
          refine J_callV (pc := 70) (n := 2) (b := 72) (vs := [.int v3, .int c1]) (ci := 2) (fun l => C_m_areApart l v3 c1 M7) (lw_V q1593 q1595 qs103 q118 q1596) nmv_X3_areApart rfl (by omega) (by decide) rfl (fun h => sh_k1 h 52 rfl) rfl (Nat.le_of_ble_eq_true rfl) dX3_code_70 (fun v9 M8 => ?_)
          refine J_if_ne (pc := 73) 79 dX3_code_73 rfl (fun h => if_neg h) (fun h => if_pos h) (fun _ => ?_) (fun _ => ?_)
          · refine J_iload_n (pc := 79) dX3_code_79 rfl ?_
            refine J_istore_n (pc := 80) dX3_code_80 (by decide) ?_
            exact J_sub (A := [some (.ref 72), some (.int c1), some (.int v3), some (.int v3), none]) ⟨rfl, ⟨rfl, ⟨rfl, ⟨rfl, trivial⟩⟩⟩⟩ (hj1 v3 M8)
          · refine J_goto (pc := 76) 81 dX3_code_76 rfl ?_
            exact J_sub (A := [some (.ref 72), some (.int c1), some (.int v2), some (.int v3), none]) ⟨rfl, ⟨rfl, ⟨rfl, ⟨rfl, trivial⟩⟩⟩⟩ (hj1 v2 M8)
        refine J_if_ne (pc := 49) 67 dX3_code_49 rfl (fun h => if_neg h) (fun h => if_pos h) (fun _ => ?_) (fun _ => ?_)
        · exact J_sub (A := [some (.ref 72), some (.int c1), some (.int v2), some (.int v3), none]) ⟨rfl, ⟨rfl, ⟨rfl, ⟨rfl, trivial⟩⟩⟩⟩ (hj2 M5)
        · refine J_aload_n (pc := 52) dX3_code_52 rfl ?_
          refine J_iload_n (pc := 53) dX3_code_53 rfl ?_
          refine J_iconst (pc := 54) 0 dX3_code_54 (by decide) ?_
          refine J_callV (pc := 55) (n := 2) (b := 72) (vs := [.int v3, .int 0]) (ci := 2) (fun l => C_m_tollsOf l v3 0 M5) (lw_V q1589 q1591 qs102 q118 q1592) nmv_X3_tollsOf rfl (by omega) (by decide) rfl (fun h => sh_k1 h 52 rfl) rfl (Nat.le_of_ble_eq_true rfl) dX3_code_55 (fun v10 M9 => ?_)
          refine J_aload_n (pc := 58) dX3_code_58 rfl ?_
          refine J_iload_n (pc := 59) dX3_code_59 rfl ?_
          refine J_iconst (pc := 60) 0 dX3_code_60 (by decide) ?_
          refine J_callV (pc := 61) (n := 2) (b := 72) (vs := [.int v2, .int 0]) (ci := 2) (fun l => C_m_tollsOf l v2 0 M9) (lw_V q1589 q1591 qs102 q118 q1592) nmv_X3_tollsOf rfl (by omega) (by decide) rfl (fun h => sh_k1 h 52 rfl) rfl (Nat.le_of_ble_eq_true rfl) dX3_code_61 (fun v11 M10 => ?_)
          refine J_icmp_ge (pc := 64) 81 dX3_code_64 rfl (fun h => if_pos h) (fun h => if_neg h) (fun _ => ?_) (fun _ => ?_)
          · exact J_sub (A := [some (.ref 72), some (.int c1), some (.int v2), some (.int v3), none]) ⟨rfl, ⟨rfl, ⟨rfl, ⟨rfl, trivial⟩⟩⟩⟩ (hj1 v2 M10)
          · exact J_sub (A := [some (.ref 72), some (.int c1), some (.int v2), some (.int v3), none]) ⟨rfl, ⟨rfl, ⟨rfl, ⟨rfl, trivial⟩⟩⟩⟩ (hj2 M10)

def m_code (p1 : Int32) (M : PM) : Option (Int32 × PM) :=
    lt (M.si 72 13 0) fun M1 =>
    bd (m_in p1 0 6 M1) fun v1 M2 =>
    if v1 = 0 then (some ((-1), M2))
    else (m_code_L21 p1 (fun (v12 : Int32) (M11 : PM) =>
    lt (M11.si 72 12 0) fun M12 =>
    bd (m_tell (Int32.toInt64 v12) M12) fun _ M13 =>
    bd (jl_bitCount v12 M13) fun v13 M14 =>
    some (v13, M14)) FU 0 1 M2)

set_option maxHeartbeats 4000000 in
theorem t_m_code (G : JG) (p1 : Int32) (M : PM) : T_m_code G  M 0 (ent [.ref 72, .int p1] 5) [] (m_code p1 M) := by
  unfold m_code
  refine J_aload_n (pc := 0) dX3_code_0 rfl ?_
  refine J_iconst (pc := 1) 0 dX3_code_1 (by decide) ?_
  refine J_put (pc := 2) (a := 72) (v := .int 0) (M' := M.si 72 13 0) (c := 2) rfl in_X3 tyX3_ok fnX3 13 (by decide) q1120 rfl (Or.inl rfl) (fun h => sh_k1 h 52 rfl) (fun _ => rfl) (fun _ => rfl) ⟨⟨rfl, rfl⟩, rfl⟩ (fun _ hb => up2_same hb) (fun _ _ => rfl) (fun _ _ => rfl) (put_i (fun _ _ _ => rfl)) (fun h => Sh_si h) dX3_code_2 ?_
  refine J_ltM (fun M1 => ?_)
  refine J_iload_n (pc := 5) dX3_code_5 rfl ?_
  refine J_iconst (pc := 6) 0 dX3_code_6 (by decide) ?_
  refine J_bipush (pc := 7) 6 dX3_code_7 (by decide) ?_
  refine J_callS (pc := 9) (n := 3) (vs := [.int p1, .int 0, .int 6]) (fun l => C_m_in l p1 0 6 M1) (lw_S q1289 q1290 q118 q1291) nmh_X3_in rfl (by omega) (by decide) rfl (Nat.le_of_ble_eq_true rfl) dX3_code_9 (fun v1 M2 => ?_)
  refine J_if_ne (pc := 12) 17 dX3_code_12 rfl (fun h => if_neg h) (fun h => if_pos h) (fun _ => ?_) (fun _ => ?_)
  · refine J_iconst (pc := 17) 0 dX3_code_17 (by decide) ?_
    refine J_istore_n (pc := 18) dX3_code_18 (by decide) ?_
    refine J_iconst (pc := 19) 1 dX3_code_19 (by decide) ?_
    refine J_istore_n (pc := 20) dX3_code_20 (by decide) ?_
    refine J_sub (A := [some (.ref 72), some (.int p1), some (.int 0), some (.int 1), none]) ⟨rfl, ⟨rfl, ⟨rfl, ⟨rfl, trivial⟩⟩⟩⟩ (t_m_code_L21 G p1 _ ?_ FU 0 1 M2)
    · intro v12 M11
      refine J_aload_n (pc := 87) dX3_code_87 rfl ?_
      refine J_iconst (pc := 88) 0 dX3_code_88 (by decide) ?_
      refine J_put (pc := 89) (a := 72) (v := .int 0) (M' := M11.si 72 12 0) (c := 2) rfl in_X3 tyX3_ok fnX3 12 (by decide) q1119 rfl (Or.inl rfl) (fun h => sh_k1 h 52 rfl) (fun _ => rfl) (fun _ => rfl) ⟨⟨rfl, rfl⟩, rfl⟩ (fun _ hb => up2_same hb) (fun _ _ => rfl) (fun _ _ => rfl) (put_i (fun _ _ _ => rfl)) (fun h => Sh_si h) dX3_code_89 ?_
      refine J_ltM (fun M12 => ?_)
      refine J_aload_n (pc := 92) dX3_code_92 rfl ?_
      refine J_iload_n (pc := 93) dX3_code_93 rfl ?_
      refine J_i2l (pc := 94) dX3_code_94 ?_
      refine J_callV (pc := 95) (n := 1) (b := 72) (vs := [.long (Int32.toInt64 v12)]) (ci := 2) (fun l => C_m_tell l (Int32.toInt64 v12) M12) (lw_V q1455 q1457 qs87 q118 q1458) nmv_X3_tell rfl (by omega) (by decide) rfl (fun h => sh_k1 h 52 rfl) rfl (Nat.le_of_ble_eq_true rfl) dX3_code_95 (fun _ M13 => ?_)
      refine J_iload_n (pc := 98) dX3_code_98 rfl ?_
      refine J_callS (pc := 99) (n := 1) (vs := [.int v12]) (fun l => C_jl_bitCount l v12 M13) (lw_S q1588 q867 q135 q868) nmh_J10_bitCount rfl (by omega) (by decide) rfl (Nat.le_of_ble_eq_true rfl) dX3_code_99 (fun v13 M14 => ?_)
      exact J_iret (pc := 102) dX3_code_102
  · refine J_iconst (pc := 15) (-1) dX3_code_15 (by decide) ?_
    exact J_iret (pc := 16) dX3_code_16

theorem C_m_code (l : Launch) (p1 : Int32) (M : PM) : Ctr l Sh yX3_code cX3_code 5 (some .int) 144 rvI [.ref 72, .int p1] M (m_code p1 M) := Ctr.of (by decide +kernel) (Nat.le_of_ble_eq_true rfl) (fun G => t_m_code G p1 M)

abbrev T_m_move (G : JG) (M : PM) (pc : Nat) (L : List (Option Value)) (S : List Value) (o : Option (Unit × PM)) : Prop := JJ G cX3_move yX3_move 4 1 none Sh (finR G Sh rvU) M pc L S o
def m_move_L2 (k95 : PM → Option (Unit × PM)) : Nat → Int32 → PM → Option (Unit × PM)
  | 0, _, _ => none
  | n + 1, v1, M1 =>
    if (Int32.ofNat (M1.k 95).2) ≤ v1 then (k95 M1)
    else (ckb (¬ (256 : Int32) = 0) <|
    lt (v1 / 256) fun v2 =>
    ck v1 1536 <|
    lt (M1.i 94 (ix v1)) fun v3 =>
    jn (fun (v4 : Int32) (M2 : PM) =>
    jn (fun (v5 : Int32) (M3 : PM) =>
    lt (if (M3.i 72 1) ≤ v2 then 100000000 else v5 : Int32) fun v6 =>
    ck v1 1536 <|
    lt (M3.si 95 (ix v1) v6) fun M4 =>
    lt (v1 + 1) fun v7 =>
    m_move_L2 k95 n v7 M4) fun j2 =>
    if (M2.i 72 1) ≤ (v2 + 1) then (j2 v4 M2)
    else (ck (v1 + 256) 1536 <|
    lt (imin v4 (M2.i 94 (ix (v1 + 256)))) fun v8 =>
    j2 v8 M2)) fun j1 =>
    if v2 ≤ 0 then (j1 v3 M1)
    else (ck (v1 - 256) 1536 <|
    lt (imin v3 (M1.i 94 (ix (v1 - 256)))) fun v9 =>
    j1 v9 M1))

set_option maxHeartbeats 4000000 in
theorem t_m_move_L2 (G : JG) (k95 : PM → Option (Unit × PM)) (hk95 : ∀ Me, T_m_move G  Me 95 [some (.ref 72), none, none, none] [] (k95 Me)) : ∀ (n : Nat) (v1 : Int32) (M1 : PM), T_m_move G  M1 2 [some (.ref 72), some (.int v1), none, none] [] (m_move_L2 k95 n v1 M1) := by
  intro n
  induction n with
  | zero =>
    intro v1 M1
    exact J_none
  | succ n ih =>
    intro v1 M1
    rw [m_move_L2]
    refine J_iload_n (pc := 2) dX3_move_2 rfl ?_
    refine J_aload_n (pc := 3) dX3_move_3 rfl ?_
    refine J_get (pc := 4) (c := 2) (.ref 95) rfl in_X3 39 (by decide) q1146 rfl (fun h => sh_k1 h 52 rfl) (fun h _ => fv_ref (Or.inr ⟨_, rfl⟩) (sh_r h 71 rfl)) dX3_move_4 ?_
    refine J_alen (pc := 7) (c := 20) (by decide) (by decide) (fun h => sh_k1 h 75 rfl) dX3_move_7 ?_
    refine J_icmp_ge (pc := 8) 95 dX3_move_8 rfl (fun h => if_pos h) (fun h => if_neg h) (fun _ => ?_) (fun _ => ?_)
    · exact J_sub (A := [some (.ref 72), none, none, none]) ⟨rfl, trivial⟩ (hk95 M1)
    · refine J_iload_n (pc := 11) dX3_move_11 rfl ?_
      refine J_sipush (pc := 12) 256 dX3_move_12 (by decide) ?_
      refine J_ckb (fun h1 => ?_)
      refine J_idiv (pc := 15) dX3_move_15 h1 ?_
      refine J_lt (β := Int32) (v := (v1 / 256)) (L := fun _ => _) (S := fun v2 => [.int v2]) (fun v2 => ?_)
      refine J_istore_n (pc := 16) dX3_move_16 (by decide) ?_
      refine J_aload_n (pc := 17) dX3_move_17 rfl ?_
      refine J_get (pc := 18) (c := 2) (.ref 94) rfl in_X3 38 (by decide) q1145 rfl (fun h => sh_k1 h 52 rfl) (fun h _ => fv_ref (Or.inr ⟨_, rfl⟩) (sh_r h 70 rfl)) dX3_move_18 ?_
      refine J_iload_n (pc := 21) dX3_move_21 rfl ?_
      refine J_ck (fun h2 => ?_)
      refine J_iald (pc := 22) (a := 94) (fun h => sh_a h 74 rfl h2) dX3_move_22 ?_
      refine J_lt (β := Int32) (v := (M1.i 94 (ix v1))) (L := fun _ => _) (S := fun v3 => [.int v3]) (fun v3 => ?_)
      refine J_istore_n (pc := 23) dX3_move_23 (by decide) ?_
      refine J_iload_n (pc := 24) dX3_move_24 rfl ?_
      refine J_jn (P := fun J => ∀ (v4 : Int32) (M2 : PM), T_m_move G  M2 43 [some (.ref 72), some (.int v1), some (.int v2), some (.int v4)] [] (J v4 M2)) (fun v4 M2 => ?_) (fun j1 hj1 => ?_)
      · refine J_iload_n (pc := 43) dX3_move_43 rfl ?_
        refine J_iconst (pc := 44) 1 dX3_move_44 (by decide) ?_
        refine J_iadd (pc := 45) dX3_move_45 ?_
        refine J_aload_n (pc := 46) dX3_move_46 rfl ?_
        refine J_get (pc := 47) (c := 2) (.int (M2.i 72 1)) rfl in_X3 1 (by decide) q1108 rfl (fun h => sh_k1 h 52 rfl) (fun _ _ => rfl) dX3_move_47 ?_
        refine J_jn (P := fun J => ∀ (v5 : Int32) (M3 : PM), T_m_move G  M3 68 [some (.ref 72), some (.int v1), some (.int v2), some (.int v5)] [] (J v5 M3)) (fun v5 M3 => ?_) (fun j2 hj2 => ?_)
        · refine J_aload_n (pc := 68) dX3_move_68 rfl ?_
          refine J_get (pc := 69) (c := 2) (.ref 95) rfl in_X3 39 (by decide) q1146 rfl (fun h => sh_k1 h 52 rfl) (fun h _ => fv_ref (Or.inr ⟨_, rfl⟩) (sh_r h 71 rfl)) dX3_move_69 ?_
          refine J_iload_n (pc := 72) dX3_move_72 rfl ?_
          refine J_iload_n (pc := 73) dX3_move_73 rfl ?_
          refine J_aload_n (pc := 74) dX3_move_74 rfl ?_
          refine J_get (pc := 75) (c := 2) (.int (M3.i 72 1)) rfl in_X3 1 (by decide) q1108 rfl (fun h => sh_k1 h 52 rfl) (fun _ _ => rfl) dX3_move_75 ?_
          refine J_ltj (β := Int32) (P := fun J => ∀ v6 : Int32, T_m_move G M3 88 [some (.ref 72), some (.int v1), none, none] [.int v6, .int v1, .ref 95] (J v6)) (fun v6 => ?_) (fun j3 hj3 => ?_)
          · refine J_ck (fun h3 => ?_)
            refine J_iast (pc := 88) (a := 95) (fun h => sh_a h 75 rfl h3) (fun h => Sh_si h) dX3_move_88 ?_
            refine J_ltM (fun M4 => ?_)
            refine J_iincL (pc := 89) (n := 1) (by decide) dX3_move_89 rfl (by decide) (fun v7 => ?_)
            refine J_goto (pc := 92) 2 dX3_move_92 rfl ?_
            exact J_sub (A := [some (.ref 72), some (.int v7), none, none]) ⟨rfl, ⟨rfl, trivial⟩⟩ (ih v7 M4)
          refine J_icmp_ge (pc := 78) 85 dX3_move_78 rfl (fun h => congrArg j3 (if_pos h)) (fun h => congrArg j3 (if_neg h)) (fun _ => ?_) (fun _ => ?_)
          · refine J_ldcw (pc := 85) 100000000 q1536 dX3_move_85 ?_
            exact J_sub (A := [some (.ref 72), some (.int v1), none, none]) ⟨rfl, ⟨rfl, trivial⟩⟩ (hj3 100000000)
          · refine J_iload_n (pc := 81) dX3_move_81 rfl ?_
            refine J_goto (pc := 82) 88 dX3_move_82 rfl ?_
            exact J_sub (A := [some (.ref 72), some (.int v1), none, none]) ⟨rfl, ⟨rfl, trivial⟩⟩ (hj3 v5)
        refine J_icmp_ge (pc := 50) 68 dX3_move_50 rfl (fun h => if_pos h) (fun h => if_neg h) (fun _ => ?_) (fun _ => ?_)
        · exact J_sub (A := [some (.ref 72), some (.int v1), some (.int v2), some (.int v4)]) ⟨rfl, ⟨rfl, ⟨rfl, ⟨rfl, trivial⟩⟩⟩⟩ (hj2 v4 M2)
        · refine J_iload_n (pc := 53) dX3_move_53 rfl ?_
          refine J_aload_n (pc := 54) dX3_move_54 rfl ?_
          refine J_get (pc := 55) (c := 2) (.ref 94) rfl in_X3 38 (by decide) q1145 rfl (fun h => sh_k1 h 52 rfl) (fun h _ => fv_ref (Or.inr ⟨_, rfl⟩) (sh_r h 70 rfl)) dX3_move_55 ?_
          refine J_iload_n (pc := 58) dX3_move_58 rfl ?_
          refine J_sipush (pc := 59) 256 dX3_move_59 (by decide) ?_
          refine J_iadd (pc := 62) dX3_move_62 ?_
          refine J_ck (fun h4 => ?_)
          refine J_iald (pc := 63) (a := 94) (fun h => sh_a h 74 rfl h4) dX3_move_63 ?_
          refine J_min (pc := 64) (by omega) q1441 q410 q119 q411 (Nat.le_of_ble_eq_true rfl) dX3_move_64 ?_
          refine J_lt (β := Int32) (v := (imin v4 (M2.i 94 (ix (v1 + 256))))) (L := fun _ => _) (S := fun v8 => [.int v8]) (fun v8 => ?_)
          refine J_istore_n (pc := 67) dX3_move_67 (by decide) ?_
          exact J_sub (A := [some (.ref 72), some (.int v1), some (.int v2), some (.int v8)]) ⟨rfl, ⟨rfl, ⟨rfl, ⟨rfl, trivial⟩⟩⟩⟩ (hj2 v8 M2)
      refine J_if_le (pc := 25) 43 dX3_move_25 rfl (fun h => if_pos h) (fun h => if_neg h) (fun _ => ?_) (fun _ => ?_)
      · exact J_sub (A := [some (.ref 72), some (.int v1), some (.int v2), some (.int v3)]) ⟨rfl, ⟨rfl, ⟨rfl, ⟨rfl, trivial⟩⟩⟩⟩ (hj1 v3 M1)
      · refine J_iload_n (pc := 28) dX3_move_28 rfl ?_
        refine J_aload_n (pc := 29) dX3_move_29 rfl ?_
        refine J_get (pc := 30) (c := 2) (.ref 94) rfl in_X3 38 (by decide) q1145 rfl (fun h => sh_k1 h 52 rfl) (fun h _ => fv_ref (Or.inr ⟨_, rfl⟩) (sh_r h 70 rfl)) dX3_move_30 ?_
        refine J_iload_n (pc := 33) dX3_move_33 rfl ?_
        refine J_sipush (pc := 34) 256 dX3_move_34 (by decide) ?_
        refine J_isub (pc := 37) dX3_move_37 ?_
        refine J_ck (fun h5 => ?_)
        refine J_iald (pc := 38) (a := 94) (fun h => sh_a h 74 rfl h5) dX3_move_38 ?_
        refine J_min (pc := 39) (by omega) q1441 q410 q119 q411 (Nat.le_of_ble_eq_true rfl) dX3_move_39 ?_
        refine J_lt (β := Int32) (v := (imin v3 (M1.i 94 (ix (v1 - 256))))) (L := fun _ => _) (S := fun v9 => [.int v9]) (fun v9 => ?_)
        refine J_istore_n (pc := 42) dX3_move_42 (by decide) ?_
        exact J_sub (A := [some (.ref 72), some (.int v1), some (.int v2), some (.int v9)]) ⟨rfl, ⟨rfl, ⟨rfl, ⟨rfl, trivial⟩⟩⟩⟩ (hj1 v9 M1)

def m_move_L97 : Nat → Int32 → PM → Option (Unit × PM)
  | 0, _, _ => none
  | n + 1, v10, M6 =>
    if (Int32.ofNat (M6.k 94).2) ≤ v10 then (some ((), M6))
    else (ck v10 1536 <|
    ck v10 1536 <|
    lt (M6.si 94 (ix v10) (M6.i 95 (ix v10))) fun M7 =>
    lt (v10 + 1) fun v11 =>
    m_move_L97 n v11 M7)

set_option maxHeartbeats 4000000 in
theorem t_m_move_L97 (G : JG) : ∀ (n : Nat) (v10 : Int32) (M6 : PM), T_m_move G  M6 97 [some (.ref 72), some (.int v10), none, none] [] (m_move_L97 n v10 M6) := by
  intro n
  induction n with
  | zero =>
    intro v10 M6
    exact J_none
  | succ n ih =>
    intro v10 M6
    rw [m_move_L97]
    refine J_iload_n (pc := 97) dX3_move_97 rfl ?_
    refine J_aload_n (pc := 98) dX3_move_98 rfl ?_
    refine J_get (pc := 99) (c := 2) (.ref 94) rfl in_X3 38 (by decide) q1145 rfl (fun h => sh_k1 h 52 rfl) (fun h _ => fv_ref (Or.inr ⟨_, rfl⟩) (sh_r h 70 rfl)) dX3_move_99 ?_
    refine J_alen (pc := 102) (c := 20) (by decide) (by decide) (fun h => sh_k1 h 74 rfl) dX3_move_102 ?_
    refine J_icmp_ge (pc := 103) 124 dX3_move_103 rfl (fun h => if_pos h) (fun h => if_neg h) (fun _ => ?_) (fun _ => ?_)
    · exact J_ret (pc := 124) dX3_move_124
    · refine J_aload_n (pc := 106) dX3_move_106 rfl ?_
      refine J_get (pc := 107) (c := 2) (.ref 94) rfl in_X3 38 (by decide) q1145 rfl (fun h => sh_k1 h 52 rfl) (fun h _ => fv_ref (Or.inr ⟨_, rfl⟩) (sh_r h 70 rfl)) dX3_move_107 ?_
      refine J_iload_n (pc := 110) dX3_move_110 rfl ?_
      refine J_aload_n (pc := 111) dX3_move_111 rfl ?_
      refine J_get (pc := 112) (c := 2) (.ref 95) rfl in_X3 39 (by decide) q1146 rfl (fun h => sh_k1 h 52 rfl) (fun h _ => fv_ref (Or.inr ⟨_, rfl⟩) (sh_r h 71 rfl)) dX3_move_112 ?_
      refine J_iload_n (pc := 115) dX3_move_115 rfl ?_
      refine J_ck (fun h6 => ?_)
      refine J_iald (pc := 116) (a := 95) (fun h => sh_a h 75 rfl h6) dX3_move_116 ?_
      refine J_ck (fun h7 => ?_)
      refine J_iast (pc := 117) (a := 94) (fun h => sh_a h 74 rfl h7) (fun h => Sh_si h) dX3_move_117 ?_
      refine J_ltM (fun M7 => ?_)
      refine J_iincL (pc := 118) (n := 1) (by decide) dX3_move_118 rfl (by decide) (fun v11 => ?_)
      refine J_goto (pc := 121) 97 dX3_move_121 rfl ?_
      exact J_sub (A := [some (.ref 72), some (.int v11), none, none]) ⟨rfl, ⟨rfl, trivial⟩⟩ (ih v11 M7)

def m_move (M : PM) : Option (Unit × PM) :=
    m_move_L2 (fun (M5 : PM) =>
    m_move_L97 FU 0 M5) FU 0 M

set_option maxHeartbeats 4000000 in
theorem t_m_move (G : JG) (M : PM) : T_m_move G  M 0 (ent [.ref 72] 4) [] (m_move M) := by
  unfold m_move
  refine J_iconst (pc := 0) 0 dX3_move_0 (by decide) ?_
  refine J_istore_n (pc := 1) dX3_move_1 (by decide) ?_
  refine J_sub (A := [some (.ref 72), some (.int 0), none, none]) ⟨rfl, ⟨rfl, trivial⟩⟩ (t_m_move_L2 G _ ?_ FU 0 M)
  · intro M5
    refine J_iconst (pc := 95) 0 dX3_move_95 (by decide) ?_
    refine J_istore_n (pc := 96) dX3_move_96 (by decide) ?_
    refine J_sub (A := [some (.ref 72), some (.int 0), none, none]) ⟨rfl, ⟨rfl, trivial⟩⟩ (t_m_move_L97 G   FU 0 M5)

theorem C_m_move (l : Launch) (M : PM) : Ctr l Sh yX3_move cX3_move 4 none 1 rvU [.ref 72] M (m_move M) := Ctr.of (by decide +kernel) (Nat.le_of_ble_eq_true rfl) (fun G => t_m_move G M)

abbrev T_m_does (G : JG) (M : PM) (pc : Nat) (L : List (Option Value)) (S : List Value) (o : Option (Int32 × PM)) : Prop := JJ G cX3_does yX3_does 6 2 (some .int) Sh (finR G Sh rvI) M pc L S o
def m_does_L6 (c1 : Int32) (c2 : Int32) (c3 : Int32) : Nat → Int32 → Int32 → PM → Option (Int32 × PM)
  | 0, _, _, _ => none
  | n + 1, v1, v2, M1 =>
    if (M1.i 72 7) ≤ v2 then (some (v1, M1))
    else (bd (m_field v2 0 M1) fun v3 M2 =>
    jn (fun (v4 : Int32) (M3 : PM) =>
    lt (v1 ||| v4) fun v5 =>
    lt (v2 + 1) fun v6 =>
    m_does_L6 c1 c2 c3 n v5 v6 M3) fun j1 =>
    if v3 = c1 then (bd (m_field v2 2 M2) fun v7 M4 =>
    if v7 = c3 then (bd (m_field v2 1 M4) fun v8 M5 =>
    bd (m_means c2 v8 M5) fun v9 M6 =>
    if v9 = 0 then (j1 0 M6)
    else (j1 (1 <<< (v2 &&& 31)) M6))
    else (j1 0 M4))
    else (j1 0 M2))

set_option maxHeartbeats 4000000 in
theorem t_m_does_L6 (G : JG) (c1 : Int32) (c2 : Int32) (c3 : Int32) : ∀ (n : Nat) (v1 : Int32) (v2 : Int32) (M1 : PM), T_m_does G  M1 6 [some (.ref 72), some (.int c1), some (.int c2), some (.int c3), some (.int v1), some (.int v2)] [] (m_does_L6 c1 c2 c3 n v1 v2 M1) := by
  intro n
  induction n with
  | zero =>
    intro v1 v2 M1
    exact J_none
  | succ n ih =>
    intro v1 v2 M1
    rw [m_does_L6]
    refine J_iload (pc := 6) dX3_does_6 rfl ?_
    refine J_aload_n (pc := 8) dX3_does_8 rfl ?_
    refine J_get (pc := 9) (c := 2) (.int (M1.i 72 7)) rfl in_X3 7 (by decide) q1114 rfl (fun h => sh_k1 h 52 rfl) (fun _ _ => rfl) dX3_does_9 ?_
    refine J_icmp_ge (pc := 12) 71 dX3_does_12 rfl (fun h => if_pos h) (fun h => if_neg h) (fun _ => ?_) (fun _ => ?_)
    · refine J_iload (pc := 71) dX3_does_71 rfl ?_
      exact J_iret (pc := 73) dX3_does_73
    · refine J_iload (pc := 15) dX3_does_15 rfl ?_
      refine J_aload_n (pc := 17) dX3_does_17 rfl ?_
      refine J_iload (pc := 18) dX3_does_18 rfl ?_
      refine J_iconst (pc := 20) 0 dX3_does_20 (by decide) ?_
      refine J_callV (pc := 21) (n := 2) (b := 72) (vs := [.int v2, .int 0]) (ci := 2) (fun l => C_m_field l v2 0 M1) (lw_V q1418 q1420 qs83 q118 q1421) nmv_X3_field rfl (by omega) (by decide) rfl (fun h => sh_k1 h 52 rfl) rfl (Nat.le_of_ble_eq_true rfl) dX3_does_21 (fun v3 M2 => ?_)
      refine J_iload_n (pc := 24) dX3_does_24 rfl ?_
      refine J_jn (P := fun J => ∀ (v4 : Int32) (M3 : PM), T_m_does G  M3 62 [some (.ref 72), some (.int c1), some (.int c2), some (.int c3), none, some (.int v2)] [.int v4, .int v1] (J v4 M3)) (fun v4 M3 => ?_) (fun j1 hj1 => ?_)
      · refine J_ior (pc := 62) dX3_does_62 ?_
        refine J_lt (β := Int32) (v := (v1 ||| v4)) (L := fun _ => _) (S := fun v5 => [.int v5]) (fun v5 => ?_)
        refine J_istore (pc := 63) dX3_does_63 (by decide) ?_
        refine J_iincL (pc := 65) (n := 1) (by decide) dX3_does_65 rfl (by decide) (fun v6 => ?_)
        refine J_goto (pc := 68) 6 dX3_does_68 rfl ?_
        exact J_sub (A := [some (.ref 72), some (.int c1), some (.int c2), some (.int c3), some (.int v5), some (.int v6)]) ⟨rfl, ⟨rfl, ⟨rfl, ⟨rfl, ⟨rfl, ⟨rfl, trivial⟩⟩⟩⟩⟩⟩ (ih v5 v6 M3)
      refine J_icmp_ne (pc := 25) 61 dX3_does_25 rfl (fun h => if_neg h) (fun h => if_pos h) (fun _ => ?_) (fun _ => ?_)
      · refine J_iconst (pc := 61) 0 dX3_does_61 (by decide) ?_
        exact J_sub (A := [some (.ref 72), some (.int c1), some (.int c2), some (.int c3), none, some (.int v2)]) ⟨rfl, ⟨rfl, ⟨rfl, ⟨rfl, ⟨rfl, trivial⟩⟩⟩⟩⟩ (hj1 0 M2)
      · refine J_aload_n (pc := 28) dX3_does_28 rfl ?_
        refine J_iload (pc := 29) dX3_does_29 rfl ?_
        refine J_iconst (pc := 31) 2 dX3_does_31 (by decide) ?_
        refine J_callV (pc := 32) (n := 2) (b := 72) (vs := [.int v2, .int 2]) (ci := 2) (fun l => C_m_field l v2 2 M2) (lw_V q1418 q1420 qs83 q118 q1421) nmv_X3_field rfl (by omega) (by decide) rfl (fun h => sh_k1 h 52 rfl) rfl (Nat.le_of_ble_eq_true rfl) dX3_does_32 (fun v7 M4 => ?_)
        refine J_iload_n (pc := 35) dX3_does_35 rfl ?_
        refine J_icmp_ne (pc := 36) 61 dX3_does_36 rfl (fun h => if_neg h) (fun h => if_pos h) (fun _ => ?_) (fun _ => ?_)
        · refine J_iconst (pc := 61) 0 dX3_does_61 (by decide) ?_
          exact J_sub (A := [some (.ref 72), some (.int c1), some (.int c2), some (.int c3), none, some (.int v2)]) ⟨rfl, ⟨rfl, ⟨rfl, ⟨rfl, ⟨rfl, trivial⟩⟩⟩⟩⟩ (hj1 0 M4)
        · refine J_aload_n (pc := 39) dX3_does_39 rfl ?_
          refine J_iload_n (pc := 40) dX3_does_40 rfl ?_
          refine J_aload_n (pc := 41) dX3_does_41 rfl ?_
          refine J_iload (pc := 42) dX3_does_42 rfl ?_
          refine J_iconst (pc := 44) 1 dX3_does_44 (by decide) ?_
          refine J_callV (pc := 45) (n := 2) (b := 72) (vs := [.int v2, .int 1]) (ci := 2) (fun l => C_m_field l v2 1 M4) (lw_V q1418 q1420 qs83 q118 q1421) nmv_X3_field rfl (by omega) (by decide) rfl (fun h => sh_k1 h 52 rfl) rfl (Nat.le_of_ble_eq_true rfl) dX3_does_45 (fun v8 M5 => ?_)
          refine J_callV (pc := 48) (n := 2) (b := 72) (vs := [.int c2, .int v8]) (ci := 2) (fun l => C_m_means l c2 v8 M5) (lw_V q1493 q1495 qs92 q118 q1496) nmv_X3_means rfl (by omega) (by decide) rfl (fun h => sh_k1 h 52 rfl) rfl (Nat.le_of_ble_eq_true rfl) dX3_does_48 (fun v9 M6 => ?_)
          refine J_if_eq (pc := 51) 61 dX3_does_51 rfl (fun h => if_pos h) (fun h => if_neg h) (fun _ => ?_) (fun _ => ?_)
          · refine J_iconst (pc := 61) 0 dX3_does_61 (by decide) ?_
            exact J_sub (A := [some (.ref 72), some (.int c1), some (.int c2), some (.int c3), none, some (.int v2)]) ⟨rfl, ⟨rfl, ⟨rfl, ⟨rfl, ⟨rfl, trivial⟩⟩⟩⟩⟩ (hj1 0 M6)
          · refine J_iconst (pc := 54) 1 dX3_does_54 (by decide) ?_
            refine J_iload (pc := 55) dX3_does_55 rfl ?_
            refine J_ishl (pc := 57) dX3_does_57 ?_
            refine J_goto (pc := 58) 62 dX3_does_58 rfl ?_
            exact J_sub (A := [some (.ref 72), some (.int c1), some (.int c2), some (.int c3), none, some (.int v2)]) ⟨rfl, ⟨rfl, ⟨rfl, ⟨rfl, ⟨rfl, trivial⟩⟩⟩⟩⟩ (hj1 (1 <<< (v2 &&& 31)) M6)

def m_does (p1 : Int32) (p2 : Int32) (p3 : Int32) (M : PM) : Option (Int32 × PM) :=
    m_does_L6 p1 p2 p3 FU 0 0 M

set_option maxHeartbeats 4000000 in
theorem t_m_does (G : JG) (p1 : Int32) (p2 : Int32) (p3 : Int32) (M : PM) : T_m_does G  M 0 (ent [.ref 72, .int p1, .int p2, .int p3] 6) [] (m_does p1 p2 p3 M) := by
  unfold m_does
  refine J_iconst (pc := 0) 0 dX3_does_0 (by decide) ?_
  refine J_istore (pc := 1) dX3_does_1 (by decide) ?_
  refine J_iconst (pc := 3) 0 dX3_does_3 (by decide) ?_
  refine J_istore (pc := 4) dX3_does_4 (by decide) ?_
  refine J_sub (A := [some (.ref 72), some (.int p1), some (.int p2), some (.int p3), some (.int 0), some (.int 0)]) ⟨rfl, ⟨rfl, ⟨rfl, ⟨rfl, ⟨rfl, ⟨rfl, trivial⟩⟩⟩⟩⟩⟩ (t_m_does_L6 G p1 p2 p3  FU 0 0 M)

theorem C_m_does (l : Launch) (p1 : Int32) (p2 : Int32) (p3 : Int32) (M : PM) : Ctr l Sh yX3_does cX3_does 6 (some .int) 2 rvI [.ref 72, .int p1, .int p2, .int p3] M (m_does p1 p2 p3 M) := Ctr.of (by decide +kernel) (Nat.le_of_ble_eq_true rfl) (fun G => t_m_does G p1 p2 p3 M)

abbrev T_m_speak (G : JG) (M : PM) (pc : Nat) (L : List (Option Value)) (S : List Value) (o : Option (Unit × PM)) : Prop := JJ G cX3_speak yX3_speak 8 142 none Sh (finR G Sh rvU) M pc L S o
def m_speak_L53 (c1 : Int32) (c2 : Int32) (c3 : Int32) (c4 : Int32) (c5 : Int32) (c6 : Int32) (k118 : PM → Option (Unit × PM)) : Nat → Int32 → PM → Option (Unit × PM)
  | 0, _, _ => none
  | n + 1, v5, M5 =>
    if 256 ≤ v5 then (k118 M5)
    else (ck ((256 * c3) + (v5 ||| c6)) 1536 <|
    ck ((256 * c3) + v5) 1536 <|
    ck ((256 * c3) + (v5 ||| c6)) 1536 <|
    lt (M5.si 94 (ix ((256 * c3) + (v5 ||| c6))) (imin (M5.i 94 (ix ((256 * c3) + (v5 ||| c6)))) ((M5.i 94 (ix ((256 * c3) + v5))) + c5))) fun M6 =>
    lt (v5 + 1) fun v6 =>
    m_speak_L53 c1 c2 c3 c4 c5 c6 k118 n v6 M6)

set_option maxHeartbeats 4000000 in
theorem t_m_speak_L53 (G : JG) (c1 : Int32) (c2 : Int32) (c3 : Int32) (c4 : Int32) (c5 : Int32) (c6 : Int32) (k118 : PM → Option (Unit × PM)) (hk118 : ∀ Me, T_m_speak G  Me 118 [some (.ref 72), some (.int c1), some (.int c2), some (.int c3), some (.int c4), none, none, none] [] (k118 Me)) : ∀ (n : Nat) (v5 : Int32) (M5 : PM), T_m_speak G  M5 53 [some (.ref 72), some (.int c1), some (.int c2), some (.int c3), some (.int c4), some (.int c5), some (.int c6), some (.int v5)] [] (m_speak_L53 c1 c2 c3 c4 c5 c6 k118 n v5 M5) := by
  intro n
  induction n with
  | zero =>
    intro v5 M5
    exact J_none
  | succ n ih =>
    intro v5 M5
    rw [m_speak_L53]
    refine J_iload (pc := 53) dX3_speak_53 rfl ?_
    refine J_sipush (pc := 55) 256 dX3_speak_55 (by decide) ?_
    refine J_icmp_ge (pc := 58) 118 dX3_speak_58 rfl (fun h => if_pos h) (fun h => if_neg h) (fun _ => ?_) (fun _ => ?_)
    · exact J_sub (A := [some (.ref 72), some (.int c1), some (.int c2), some (.int c3), some (.int c4), none, none, none]) ⟨rfl, ⟨rfl, ⟨rfl, ⟨rfl, ⟨rfl, trivial⟩⟩⟩⟩⟩ (hk118 M5)
    · refine J_aload_n (pc := 61) dX3_speak_61 rfl ?_
      refine J_get (pc := 62) (c := 2) (.ref 94) rfl in_X3 38 (by decide) q1145 rfl (fun h => sh_k1 h 52 rfl) (fun h _ => fv_ref (Or.inr ⟨_, rfl⟩) (sh_r h 70 rfl)) dX3_speak_62 ?_
      refine J_sipush (pc := 65) 256 dX3_speak_65 (by decide) ?_
      refine J_iload_n (pc := 68) dX3_speak_68 rfl ?_
      refine J_imul (pc := 69) dX3_speak_69 ?_
      refine J_iload (pc := 70) dX3_speak_70 rfl ?_
      refine J_iload (pc := 72) dX3_speak_72 rfl ?_
      refine J_ior (pc := 74) dX3_speak_74 ?_
      refine J_iadd (pc := 75) dX3_speak_75 ?_
      refine J_aload_n (pc := 76) dX3_speak_76 rfl ?_
      refine J_get (pc := 77) (c := 2) (.ref 94) rfl in_X3 38 (by decide) q1145 rfl (fun h => sh_k1 h 52 rfl) (fun h _ => fv_ref (Or.inr ⟨_, rfl⟩) (sh_r h 70 rfl)) dX3_speak_77 ?_
      refine J_sipush (pc := 80) 256 dX3_speak_80 (by decide) ?_
      refine J_iload_n (pc := 83) dX3_speak_83 rfl ?_
      refine J_imul (pc := 84) dX3_speak_84 ?_
      refine J_iload (pc := 85) dX3_speak_85 rfl ?_
      refine J_iload (pc := 87) dX3_speak_87 rfl ?_
      refine J_ior (pc := 89) dX3_speak_89 ?_
      refine J_iadd (pc := 90) dX3_speak_90 ?_
      refine J_ck (fun h2 => ?_)
      refine J_iald (pc := 91) (a := 94) (fun h => sh_a h 74 rfl h2) dX3_speak_91 ?_
      refine J_aload_n (pc := 92) dX3_speak_92 rfl ?_
      refine J_get (pc := 93) (c := 2) (.ref 94) rfl in_X3 38 (by decide) q1145 rfl (fun h => sh_k1 h 52 rfl) (fun h _ => fv_ref (Or.inr ⟨_, rfl⟩) (sh_r h 70 rfl)) dX3_speak_93 ?_
      refine J_sipush (pc := 96) 256 dX3_speak_96 (by decide) ?_
      refine J_iload_n (pc := 99) dX3_speak_99 rfl ?_
      refine J_imul (pc := 100) dX3_speak_100 ?_
      refine J_iload (pc := 101) dX3_speak_101 rfl ?_
      refine J_iadd (pc := 103) dX3_speak_103 ?_
      refine J_ck (fun h3 => ?_)
      refine J_iald (pc := 104) (a := 94) (fun h => sh_a h 74 rfl h3) dX3_speak_104 ?_
      refine J_iload (pc := 105) dX3_speak_105 rfl ?_
      refine J_iadd (pc := 107) dX3_speak_107 ?_
      refine J_min (pc := 108) (by omega) q1441 q410 q119 q411 (Nat.le_of_ble_eq_true rfl) dX3_speak_108 ?_
      refine J_ck (fun h4 => ?_)
      refine J_iast (pc := 111) (a := 94) (fun h => sh_a h 74 rfl h4) (fun h => Sh_si h) dX3_speak_111 ?_
      refine J_ltM (fun M6 => ?_)
      refine J_iincL (pc := 112) (n := 1) (by decide) dX3_speak_112 rfl (by decide) (fun v6 => ?_)
      refine J_goto (pc := 115) 53 dX3_speak_115 rfl ?_
      exact J_sub (A := [some (.ref 72), some (.int c1), some (.int c2), some (.int c3), some (.int c4), some (.int c5), some (.int c6), some (.int v6)]) ⟨rfl, ⟨rfl, ⟨rfl, ⟨rfl, ⟨rfl, ⟨rfl, ⟨rfl, ⟨rfl, trivial⟩⟩⟩⟩⟩⟩⟩⟩ (ih v6 M6)

def m_speak_L13 (c1 : Int32) (c2 : Int32) (c3 : Int32) (k124 : PM → Option (Unit × PM)) : Nat → Int32 → PM → Option (Unit × PM)
  | 0, _, _ => none
  | n + 1, v2, M2 =>
    if (M2.i 72 2) ≤ v2 then (k124 M2)
    else (ck 12 44 <|
    bd (m_tollOf v2 c3 ((M2.i 73 (ix 12)) + c2) M2) fun v3 M3 =>
    bd (m_does c1 v2 c3 M3) fun v4 M4 =>
    m_speak_L53 c1 c2 c3 v2 v3 v4 (fun (M7 : PM) =>
    lt (v2 + 1) fun v7 =>
    m_speak_L13 c1 c2 c3 k124 n v7 M7) FU 0 M4)

set_option maxHeartbeats 4000000 in
theorem t_m_speak_L13 (G : JG) (c1 : Int32) (c2 : Int32) (c3 : Int32) (k124 : PM → Option (Unit × PM)) (hk124 : ∀ Me, T_m_speak G  Me 124 [some (.ref 72), some (.int c1), some (.int c2), some (.int c3), none, none, none, none] [] (k124 Me)) : ∀ (n : Nat) (v2 : Int32) (M2 : PM), T_m_speak G  M2 13 [some (.ref 72), some (.int c1), some (.int c2), some (.int c3), some (.int v2), none, none, none] [] (m_speak_L13 c1 c2 c3 k124 n v2 M2) := by
  intro n
  induction n with
  | zero =>
    intro v2 M2
    exact J_none
  | succ n ih =>
    intro v2 M2
    rw [m_speak_L13]
    refine J_iload (pc := 13) dX3_speak_13 rfl ?_
    refine J_aload_n (pc := 15) dX3_speak_15 rfl ?_
    refine J_get (pc := 16) (c := 2) (.int (M2.i 72 2)) rfl in_X3 2 (by decide) q1109 rfl (fun h => sh_k1 h 52 rfl) (fun _ _ => rfl) dX3_speak_16 ?_
    refine J_icmp_ge (pc := 19) 124 dX3_speak_19 rfl (fun h => if_pos h) (fun h => if_neg h) (fun _ => ?_) (fun _ => ?_)
    · exact J_sub (A := [some (.ref 72), some (.int c1), some (.int c2), some (.int c3), none, none, none, none]) ⟨rfl, ⟨rfl, ⟨rfl, ⟨rfl, trivial⟩⟩⟩⟩ (hk124 M2)
    · refine J_aload_n (pc := 22) dX3_speak_22 rfl ?_
      refine J_iload (pc := 23) dX3_speak_23 rfl ?_
      refine J_iload_n (pc := 25) dX3_speak_25 rfl ?_
      refine J_aload_n (pc := 26) dX3_speak_26 rfl ?_
      refine J_get (pc := 27) (c := 2) (.ref 73) rfl in_X3 0 (by decide) q1107 rfl (fun h => sh_k1 h 52 rfl) (fun h _ => fv_ref (Or.inr ⟨_, rfl⟩) (sh_r h 51 rfl)) dX3_speak_27 ?_
      refine J_bipush (pc := 30) 12 dX3_speak_30 (by decide) ?_
      refine J_ck (fun h1 => ?_)
      refine J_iald (pc := 32) (a := 73) (fun h => sh_a h 53 rfl h1) dX3_speak_32 ?_
      refine J_iload_n (pc := 33) dX3_speak_33 rfl ?_
      refine J_iadd (pc := 34) dX3_speak_34 ?_
      refine J_callV (pc := 35) (n := 3) (b := 72) (vs := [.int v2, .int c3, .int ((M2.i 73 (ix 12)) + c2)]) (ci := 2) (fun l => C_m_tollOf l v2 c3 ((M2.i 73 (ix 12)) + c2) M2) (lw_V q1451 q1453 qs86 q118 q1454) nmv_X3_tollOf rfl (by omega) (by decide) rfl (fun h => sh_k1 h 52 rfl) rfl (Nat.le_of_ble_eq_true rfl) dX3_speak_35 (fun v3 M3 => ?_)
      refine J_istore (pc := 38) dX3_speak_38 (by decide) ?_
      refine J_aload_n (pc := 40) dX3_speak_40 rfl ?_
      refine J_iload_n (pc := 41) dX3_speak_41 rfl ?_
      refine J_iload (pc := 42) dX3_speak_42 rfl ?_
      refine J_iload_n (pc := 44) dX3_speak_44 rfl ?_
      refine J_callV (pc := 45) (n := 3) (b := 72) (vs := [.int c1, .int v2, .int c3]) (ci := 2) (fun l => C_m_does l c1 v2 c3 M3) (lw_V q1613 q1615 qs107 q118 q1616) nmv_X3_does rfl (by omega) (by decide) rfl (fun h => sh_k1 h 52 rfl) rfl (Nat.le_of_ble_eq_true rfl) dX3_speak_45 (fun v4 M4 => ?_)
      refine J_istore (pc := 48) dX3_speak_48 (by decide) ?_
      refine J_iconst (pc := 50) 0 dX3_speak_50 (by decide) ?_
      refine J_istore (pc := 51) dX3_speak_51 (by decide) ?_
      refine J_sub (A := [some (.ref 72), some (.int c1), some (.int c2), some (.int c3), some (.int v2), some (.int v3), some (.int v4), some (.int 0)]) ⟨rfl, ⟨rfl, ⟨rfl, ⟨rfl, ⟨rfl, ⟨rfl, ⟨rfl, ⟨rfl, trivial⟩⟩⟩⟩⟩⟩⟩⟩ (t_m_speak_L53 G c1 c2 c3 v2 v3 v4 _ ?_ FU 0 M4)
      · intro M7
        refine J_iincL (pc := 118) (n := 1) (by decide) dX3_speak_118 rfl (by decide) (fun v7 => ?_)
        refine J_goto (pc := 121) 13 dX3_speak_121 rfl ?_
        exact J_sub (A := [some (.ref 72), some (.int c1), some (.int c2), some (.int c3), some (.int v7), none, none, none]) ⟨rfl, ⟨rfl, ⟨rfl, ⟨rfl, ⟨rfl, trivial⟩⟩⟩⟩⟩ (ih v7 M7)

def m_speak_L2 (c1 : Int32) (c2 : Int32) : Nat → Int32 → PM → Option (Unit × PM)
  | 0, _, _ => none
  | n + 1, v1, M1 =>
    if (M1.i 72 1) ≤ v1 then (some ((), M1))
    else (m_speak_L13 c1 c2 v1 (fun (M8 : PM) =>
    lt (v1 + 1) fun v8 =>
    m_speak_L2 c1 c2 n v8 M8) FU 0 M1)

set_option maxHeartbeats 4000000 in
theorem t_m_speak_L2 (G : JG) (c1 : Int32) (c2 : Int32) : ∀ (n : Nat) (v1 : Int32) (M1 : PM), T_m_speak G  M1 2 [some (.ref 72), some (.int c1), some (.int c2), some (.int v1), none, none, none, none] [] (m_speak_L2 c1 c2 n v1 M1) := by
  intro n
  induction n with
  | zero =>
    intro v1 M1
    exact J_none
  | succ n ih =>
    intro v1 M1
    rw [m_speak_L2]
    refine J_iload_n (pc := 2) dX3_speak_2 rfl ?_
    refine J_aload_n (pc := 3) dX3_speak_3 rfl ?_
    refine J_get (pc := 4) (c := 2) (.int (M1.i 72 1)) rfl in_X3 1 (by decide) q1108 rfl (fun h => sh_k1 h 52 rfl) (fun _ _ => rfl) dX3_speak_4 ?_
    refine J_icmp_ge (pc := 7) 130 dX3_speak_7 rfl (fun h => if_pos h) (fun h => if_neg h) (fun _ => ?_) (fun _ => ?_)
    · exact J_ret (pc := 130) dX3_speak_130
    · refine J_iconst (pc := 10) 0 dX3_speak_10 (by decide) ?_
      refine J_istore (pc := 11) dX3_speak_11 (by decide) ?_
      refine J_sub (A := [some (.ref 72), some (.int c1), some (.int c2), some (.int v1), some (.int 0), none, none, none]) ⟨rfl, ⟨rfl, ⟨rfl, ⟨rfl, ⟨rfl, trivial⟩⟩⟩⟩⟩ (t_m_speak_L13 G c1 c2 v1 _ ?_ FU 0 M1)
      · intro M8
        refine J_iincL (pc := 124) (n := 1) (by decide) dX3_speak_124 rfl (by decide) (fun v8 => ?_)
        refine J_goto (pc := 127) 2 dX3_speak_127 rfl ?_
        exact J_sub (A := [some (.ref 72), some (.int c1), some (.int c2), some (.int v8), none, none, none, none]) ⟨rfl, ⟨rfl, ⟨rfl, ⟨rfl, trivial⟩⟩⟩⟩ (ih v8 M8)

def m_speak (p1 : Int32) (p2 : Int32) (M : PM) : Option (Unit × PM) :=
    m_speak_L2 p1 p2 FU 0 M

set_option maxHeartbeats 4000000 in
theorem t_m_speak (G : JG) (p1 : Int32) (p2 : Int32) (M : PM) : T_m_speak G  M 0 (ent [.ref 72, .int p1, .int p2] 8) [] (m_speak p1 p2 M) := by
  unfold m_speak
  refine J_iconst (pc := 0) 0 dX3_speak_0 (by decide) ?_
  refine J_istore_n (pc := 1) dX3_speak_1 (by decide) ?_
  refine J_sub (A := [some (.ref 72), some (.int p1), some (.int p2), some (.int 0), none, none, none, none]) ⟨rfl, ⟨rfl, ⟨rfl, ⟨rfl, trivial⟩⟩⟩⟩ (t_m_speak_L2 G p1 p2  FU 0 M)

theorem C_m_speak (l : Launch) (p1 : Int32) (p2 : Int32) (M : PM) : Ctr l Sh yX3_speak cX3_speak 8 none 142 rvU [.ref 72, .int p1, .int p2] M (m_speak p1 p2 M) := Ctr.of (by decide +kernel) (Nat.le_of_ble_eq_true rfl) (fun G => t_m_speak G p1 p2 M)

abbrev T_m_leastTrip (G : JG) (M : PM) (pc : Nat) (L : List (Option Value)) (S : List Value) (o : Option (Int32 × PM)) : Prop := JJ G cX3_leastTrip yX3_leastTrip 8 143 (some .int) Sh (finR G Sh rvI) M pc L S o
def m_leastTrip_L9 (c1 : Int32) (c2 : Int32) (c3 : Int32) (k35 : PM → Option (Int32 × PM)) : Nat → Int32 → PM → Option (Int32 × PM)
  | 0, _, _ => none
  | n + 1, v2, M2 =>
    if (Int32.ofNat (M2.k 94).2) ≤ v2 then (k35 M2)
    else (ck v2 1536 <|
    lt (M2.si 94 (ix v2) 100000000) fun M3 =>
    lt (v2 + 1) fun v3 =>
    m_leastTrip_L9 c1 c2 c3 k35 n v3 M3)

set_option maxHeartbeats 4000000 in
theorem t_m_leastTrip_L9 (G : JG) (c1 : Int32) (c2 : Int32) (c3 : Int32) (k35 : PM → Option (Int32 × PM)) (hk35 : ∀ Me, T_m_leastTrip G  Me 35 [some (.ref 72), some (.int c1), some (.int c2), some (.int c3), none, none, none, none] [] (k35 Me)) : ∀ (n : Nat) (v2 : Int32) (M2 : PM), T_m_leastTrip G  M2 9 [some (.ref 72), some (.int c1), some (.int c2), some (.int c3), some (.int v2), none, none, none] [] (m_leastTrip_L9 c1 c2 c3 k35 n v2 M2) := by
  intro n
  induction n with
  | zero =>
    intro v2 M2
    exact J_none
  | succ n ih =>
    intro v2 M2
    rw [m_leastTrip_L9]
    refine J_iload (pc := 9) dX3_leastTrip_9 rfl ?_
    refine J_aload_n (pc := 11) dX3_leastTrip_11 rfl ?_
    refine J_get (pc := 12) (c := 2) (.ref 94) rfl in_X3 38 (by decide) q1145 rfl (fun h => sh_k1 h 52 rfl) (fun h _ => fv_ref (Or.inr ⟨_, rfl⟩) (sh_r h 70 rfl)) dX3_leastTrip_12 ?_
    refine J_alen (pc := 15) (c := 20) (by decide) (by decide) (fun h => sh_k1 h 74 rfl) dX3_leastTrip_15 ?_
    refine J_icmp_ge (pc := 16) 35 dX3_leastTrip_16 rfl (fun h => if_pos h) (fun h => if_neg h) (fun _ => ?_) (fun _ => ?_)
    · exact J_sub (A := [some (.ref 72), some (.int c1), some (.int c2), some (.int c3), none, none, none, none]) ⟨rfl, ⟨rfl, ⟨rfl, ⟨rfl, trivial⟩⟩⟩⟩ (hk35 M2)
    · refine J_aload_n (pc := 19) dX3_leastTrip_19 rfl ?_
      refine J_get (pc := 20) (c := 2) (.ref 94) rfl in_X3 38 (by decide) q1145 rfl (fun h => sh_k1 h 52 rfl) (fun h _ => fv_ref (Or.inr ⟨_, rfl⟩) (sh_r h 70 rfl)) dX3_leastTrip_20 ?_
      refine J_iload (pc := 23) dX3_leastTrip_23 rfl ?_
      refine J_ldcw (pc := 25) 100000000 q1536 dX3_leastTrip_25 ?_
      refine J_ck (fun h1 => ?_)
      refine J_iast (pc := 28) (a := 94) (fun h => sh_a h 74 rfl h1) (fun h => Sh_si h) dX3_leastTrip_28 ?_
      refine J_ltM (fun M3 => ?_)
      refine J_iincL (pc := 29) (n := 1) (by decide) dX3_leastTrip_29 rfl (by decide) (fun v3 => ?_)
      refine J_goto (pc := 32) 9 dX3_leastTrip_32 rfl ?_
      exact J_sub (A := [some (.ref 72), some (.int c1), some (.int c2), some (.int c3), some (.int v3), none, none, none]) ⟨rfl, ⟨rfl, ⟨rfl, ⟨rfl, ⟨rfl, trivial⟩⟩⟩⟩⟩ (ih v3 M3)

def m_leastTrip_L102 (c1 : Int32) (c2 : Int32) (c5 : Int32) (k156 : Int32 → PM → Option (Int32 × PM)) : Nat → Int32 → Int32 → PM → Option (Int32 × PM)
  | 0, _, _, _ => none
  | n + 1, v6, v7, M11 =>
    if (M11.i 72 1) ≤ v7 then (k156 v6 M11)
    else (ck (((256 * v7) + 256) - 1) 1536 <|
    lt (M11.i 94 (ix (((256 * v7) + 256) - 1))) fun v8 =>
    jn (fun (v9 : Int32) (M12 : PM) =>
    lt (v7 + 1) fun v10 =>
    m_leastTrip_L102 c1 c2 c5 k156 n v9 v10 M12) fun j2 =>
    if v8 < v6 then (lt (M11.si 72 42 c5) fun M13 =>
    j2 v8 M13)
    else (j2 v6 M11))

set_option maxHeartbeats 4000000 in
theorem t_m_leastTrip_L102 (G : JG) (c1 : Int32) (c2 : Int32) (c5 : Int32) (k156 : Int32 → PM → Option (Int32 × PM)) (hk156 : ∀ z4 Me, T_m_leastTrip G  Me 156 [some (.ref 72), some (.int c1), some (.int c2), none, some (.int z4), some (.int c5), none, none] [] (k156 z4 Me)) : ∀ (n : Nat) (v6 : Int32) (v7 : Int32) (M11 : PM), T_m_leastTrip G  M11 102 [some (.ref 72), some (.int c1), some (.int c2), none, some (.int v6), some (.int c5), some (.int v7), none] [] (m_leastTrip_L102 c1 c2 c5 k156 n v6 v7 M11) := by
  intro n
  induction n with
  | zero =>
    intro v6 v7 M11
    exact J_none
  | succ n ih =>
    intro v6 v7 M11
    rw [m_leastTrip_L102]
    refine J_iload (pc := 102) dX3_leastTrip_102 rfl ?_
    refine J_aload_n (pc := 104) dX3_leastTrip_104 rfl ?_
    refine J_get (pc := 105) (c := 2) (.int (M11.i 72 1)) rfl in_X3 1 (by decide) q1108 rfl (fun h => sh_k1 h 52 rfl) (fun _ _ => rfl) dX3_leastTrip_105 ?_
    refine J_icmp_ge (pc := 108) 156 dX3_leastTrip_108 rfl (fun h => if_pos h) (fun h => if_neg h) (fun _ => ?_) (fun _ => ?_)
    · exact J_sub (A := [some (.ref 72), some (.int c1), some (.int c2), none, some (.int v6), some (.int c5), none, none]) ⟨rfl, ⟨rfl, ⟨rfl, ⟨rfl, ⟨rfl, trivial⟩⟩⟩⟩⟩ (hk156 v6 M11)
    · refine J_aload_n (pc := 111) dX3_leastTrip_111 rfl ?_
      refine J_get (pc := 112) (c := 2) (.ref 94) rfl in_X3 38 (by decide) q1145 rfl (fun h => sh_k1 h 52 rfl) (fun h _ => fv_ref (Or.inr ⟨_, rfl⟩) (sh_r h 70 rfl)) dX3_leastTrip_112 ?_
      refine J_sipush (pc := 115) 256 dX3_leastTrip_115 (by decide) ?_
      refine J_iload (pc := 118) dX3_leastTrip_118 rfl ?_
      refine J_imul (pc := 120) dX3_leastTrip_120 ?_
      refine J_sipush (pc := 121) 256 dX3_leastTrip_121 (by decide) ?_
      refine J_iadd (pc := 124) dX3_leastTrip_124 ?_
      refine J_iconst (pc := 125) 1 dX3_leastTrip_125 (by decide) ?_
      refine J_isub (pc := 126) dX3_leastTrip_126 ?_
      refine J_ck (fun h4 => ?_)
      refine J_iald (pc := 127) (a := 94) (fun h => sh_a h 74 rfl h4) dX3_leastTrip_127 ?_
      refine J_lt (β := Int32) (v := (M11.i 94 (ix (((256 * v7) + 256) - 1)))) (L := fun _ => _) (S := fun v8 => [.int v8]) (fun v8 => ?_)
      refine J_istore (pc := 128) dX3_leastTrip_128 (by decide) ?_
      refine J_iload (pc := 130) dX3_leastTrip_130 rfl ?_
      refine J_iload (pc := 132) dX3_leastTrip_132 rfl ?_
      refine J_jn (P := fun J => ∀ (v9 : Int32) (M12 : PM), T_m_leastTrip G  M12 150 [some (.ref 72), some (.int c1), some (.int c2), none, some (.int v9), some (.int c5), some (.int v7), none] [] (J v9 M12)) (fun v9 M12 => ?_) (fun j2 hj2 => ?_)
      · refine J_iincL (pc := 150) (n := 1) (by decide) dX3_leastTrip_150 rfl (by decide) (fun v10 => ?_)
        refine J_goto (pc := 153) 102 dX3_leastTrip_153 rfl ?_
        exact J_sub (A := [some (.ref 72), some (.int c1), some (.int c2), none, some (.int v9), some (.int c5), some (.int v10), none]) ⟨rfl, ⟨rfl, ⟨rfl, ⟨rfl, ⟨rfl, ⟨rfl, trivial⟩⟩⟩⟩⟩⟩ (ih v9 v10 M12)
      refine J_icmp_lt (pc := 134) 140 dX3_leastTrip_134 rfl (fun h => if_pos h) (fun h => if_neg h) (fun _ => ?_) (fun _ => ?_)
      · refine J_iload (pc := 140) dX3_leastTrip_140 rfl ?_
        refine J_istore (pc := 142) dX3_leastTrip_142 (by decide) ?_
        refine J_aload_n (pc := 144) dX3_leastTrip_144 rfl ?_
        refine J_iload (pc := 145) dX3_leastTrip_145 rfl ?_
        refine J_put (pc := 147) (a := 72) (v := .int c5) (M' := M11.si 72 42 c5) (c := 2) rfl in_X3 tyX3_ok fnX3 42 (by decide) q1149 rfl (Or.inl rfl) (fun h => sh_k1 h 52 rfl) (fun _ => rfl) (fun _ => rfl) ⟨⟨rfl, rfl⟩, rfl⟩ (fun _ hb => up2_same hb) (fun _ _ => rfl) (fun _ _ => rfl) (put_i (fun _ _ _ => rfl)) (fun h => Sh_si h) dX3_leastTrip_147 ?_
        refine J_ltM (fun M13 => ?_)
        exact J_sub (A := [some (.ref 72), some (.int c1), some (.int c2), none, some (.int v8), some (.int c5), some (.int v7), none]) ⟨rfl, ⟨rfl, ⟨rfl, ⟨rfl, ⟨rfl, ⟨rfl, trivial⟩⟩⟩⟩⟩⟩ (hj2 v8 M13)
      · refine J_goto (pc := 137) 150 dX3_leastTrip_137 rfl ?_
        exact J_sub (A := [some (.ref 72), some (.int c1), some (.int c2), none, some (.int v6), some (.int c5), some (.int v7), none]) ⟨rfl, ⟨rfl, ⟨rfl, ⟨rfl, ⟨rfl, ⟨rfl, trivial⟩⟩⟩⟩⟩⟩ (hj2 v6 M11)

def m_leastTrip_L77 (c1 : Int32) (c2 : Int32) : Nat → Int32 → Int32 → PM → Option (Int32 × PM)
  | 0, _, _, _ => none
  | n + 1, v4, v5, M8 =>
    if c2 < v5 then (some (v4, M8))
    else (jn (fun (M9 : PM) =>
    bd (m_speak c1 v5 M9) fun _ M10 =>
    m_leastTrip_L102 c1 c2 v5 (fun (v11 : Int32) (M14 : PM) =>
    jn (fun (M15 : PM) =>
    lt (v5 + 1) fun v12 =>
    m_leastTrip_L77 c1 c2 n v11 v12 M15) fun j3 =>
    if (M14.i 72 40) = (-1) then (if 100000000 ≤ v11 then (j3 M14)
    else (lt (M14.si 72 40 v5) fun M16 =>
    lt (M16.si 72 41 v11) fun M17 =>
    j3 M17))
    else (j3 M14)) FU v4 0 M10) fun j1 =>
    if v5 ≤ 0 then (j1 M8)
    else (bd (m_move M8) fun _ M18 =>
    j1 M18))

set_option maxHeartbeats 4000000 in
theorem t_m_leastTrip_L77 (G : JG) (c1 : Int32) (c2 : Int32) : ∀ (n : Nat) (v4 : Int32) (v5 : Int32) (M8 : PM), T_m_leastTrip G  M8 77 [some (.ref 72), some (.int c1), some (.int c2), none, some (.int v4), some (.int v5), none, none] [] (m_leastTrip_L77 c1 c2 n v4 v5 M8) := by
  intro n
  induction n with
  | zero =>
    intro v4 v5 M8
    exact J_none
  | succ n ih =>
    intro v4 v5 M8
    rw [m_leastTrip_L77]
    refine J_iload (pc := 77) dX3_leastTrip_77 rfl ?_
    refine J_iload_n (pc := 79) dX3_leastTrip_79 rfl ?_
    refine J_icmp_gt (pc := 80) 190 dX3_leastTrip_80 rfl (fun h => if_pos h) (fun h => if_neg h) (fun _ => ?_) (fun _ => ?_)
    · refine J_iload (pc := 190) dX3_leastTrip_190 rfl ?_
      exact J_iret (pc := 192) dX3_leastTrip_192
    · refine J_iload (pc := 83) dX3_leastTrip_83 rfl ?_
      refine J_jn (P := fun J => ∀ (M9 : PM), T_m_leastTrip G  M9 92 [some (.ref 72), some (.int c1), some (.int c2), none, some (.int v4), some (.int v5), none, none] [] (J M9)) (fun M9 => ?_) (fun j1 hj1 => ?_)
      · refine J_aload_n (pc := 92) dX3_leastTrip_92 rfl ?_
        refine J_iload_n (pc := 93) dX3_leastTrip_93 rfl ?_
        refine J_iload (pc := 94) dX3_leastTrip_94 rfl ?_
        refine J_callV (pc := 96) (n := 2) (b := 72) (vs := [.int c1, .int v5]) (ci := 2) (fun l => C_m_speak l c1 v5 M9) (lw_V q1609 q1611 qs106 q118 q1612) nmv_X3_speak rfl (by omega) (by decide) rfl (fun h => sh_k1 h 52 rfl) rfl (Nat.le_of_ble_eq_true rfl) dX3_leastTrip_96 (fun _ M10 => ?_)
        refine J_iconst (pc := 99) 0 dX3_leastTrip_99 (by decide) ?_
        refine J_istore (pc := 100) dX3_leastTrip_100 (by decide) ?_
        refine J_sub (A := [some (.ref 72), some (.int c1), some (.int c2), none, some (.int v4), some (.int v5), some (.int 0), none]) ⟨rfl, ⟨rfl, ⟨rfl, ⟨rfl, ⟨rfl, ⟨rfl, trivial⟩⟩⟩⟩⟩⟩ (t_m_leastTrip_L102 G c1 c2 v5 _ ?_ FU v4 0 M10)
        · intro v11 M14
          refine J_aload_n (pc := 156) dX3_leastTrip_156 rfl ?_
          refine J_get (pc := 157) (c := 2) (.int (M14.i 72 40)) rfl in_X3 40 (by decide) q1147 rfl (fun h => sh_k1 h 52 rfl) (fun _ _ => rfl) dX3_leastTrip_157 ?_
          refine J_iconst (pc := 160) (-1) dX3_leastTrip_160 (by decide) ?_
          refine J_jn (P := fun J => ∀ (M15 : PM), T_m_leastTrip G  M15 184 [some (.ref 72), some (.int c1), some (.int c2), none, some (.int v11), some (.int v5), none, none] [] (J M15)) (fun M15 => ?_) (fun j3 hj3 => ?_)
          · refine J_iincL (pc := 184) (n := 1) (by decide) dX3_leastTrip_184 rfl (by decide) (fun v12 => ?_)
            refine J_goto (pc := 187) 77 dX3_leastTrip_187 rfl ?_
            exact J_sub (A := [some (.ref 72), some (.int c1), some (.int c2), none, some (.int v11), some (.int v12), none, none]) ⟨rfl, ⟨rfl, ⟨rfl, ⟨rfl, ⟨rfl, trivial⟩⟩⟩⟩⟩ (ih v11 v12 M15)
          refine J_icmp_ne (pc := 161) 184 dX3_leastTrip_161 rfl (fun h => if_neg h) (fun h => if_pos h) (fun _ => ?_) (fun _ => ?_)
          · exact J_sub (A := [some (.ref 72), some (.int c1), some (.int c2), none, some (.int v11), some (.int v5), none, none]) ⟨rfl, ⟨rfl, ⟨rfl, ⟨rfl, ⟨rfl, trivial⟩⟩⟩⟩⟩ (hj3 M14)
          · refine J_iload (pc := 164) dX3_leastTrip_164 rfl ?_
            refine J_ldcw (pc := 166) 100000000 q1536 dX3_leastTrip_166 ?_
            refine J_icmp_ge (pc := 169) 184 dX3_leastTrip_169 rfl (fun h => if_pos h) (fun h => if_neg h) (fun _ => ?_) (fun _ => ?_)
            · exact J_sub (A := [some (.ref 72), some (.int c1), some (.int c2), none, some (.int v11), some (.int v5), none, none]) ⟨rfl, ⟨rfl, ⟨rfl, ⟨rfl, ⟨rfl, trivial⟩⟩⟩⟩⟩ (hj3 M14)
            · refine J_aload_n (pc := 172) dX3_leastTrip_172 rfl ?_
              refine J_iload (pc := 173) dX3_leastTrip_173 rfl ?_
              refine J_put (pc := 175) (a := 72) (v := .int v5) (M' := M14.si 72 40 v5) (c := 2) rfl in_X3 tyX3_ok fnX3 40 (by decide) q1147 rfl (Or.inl rfl) (fun h => sh_k1 h 52 rfl) (fun _ => rfl) (fun _ => rfl) ⟨⟨rfl, rfl⟩, rfl⟩ (fun _ hb => up2_same hb) (fun _ _ => rfl) (fun _ _ => rfl) (put_i (fun _ _ _ => rfl)) (fun h => Sh_si h) dX3_leastTrip_175 ?_
              refine J_ltM (fun M16 => ?_)
              refine J_aload_n (pc := 178) dX3_leastTrip_178 rfl ?_
              refine J_iload (pc := 179) dX3_leastTrip_179 rfl ?_
              refine J_put (pc := 181) (a := 72) (v := .int v11) (M' := M16.si 72 41 v11) (c := 2) rfl in_X3 tyX3_ok fnX3 41 (by decide) q1148 rfl (Or.inl rfl) (fun h => sh_k1 h 52 rfl) (fun _ => rfl) (fun _ => rfl) ⟨⟨rfl, rfl⟩, rfl⟩ (fun _ hb => up2_same hb) (fun _ _ => rfl) (fun _ _ => rfl) (put_i (fun _ _ _ => rfl)) (fun h => Sh_si h) dX3_leastTrip_181 ?_
              refine J_ltM (fun M17 => ?_)
              exact J_sub (A := [some (.ref 72), some (.int c1), some (.int c2), none, some (.int v11), some (.int v5), none, none]) ⟨rfl, ⟨rfl, ⟨rfl, ⟨rfl, ⟨rfl, trivial⟩⟩⟩⟩⟩ (hj3 M17)
      refine J_if_le (pc := 85) 92 dX3_leastTrip_85 rfl (fun h => if_pos h) (fun h => if_neg h) (fun _ => ?_) (fun _ => ?_)
      · exact J_sub (A := [some (.ref 72), some (.int c1), some (.int c2), none, some (.int v4), some (.int v5), none, none]) ⟨rfl, ⟨rfl, ⟨rfl, ⟨rfl, ⟨rfl, trivial⟩⟩⟩⟩⟩ (hj1 M8)
      · refine J_aload_n (pc := 88) dX3_leastTrip_88 rfl ?_
        refine J_callV (pc := 89) (n := 0) (b := 72) (vs := []) (ci := 2) (fun l => C_m_move l  M8) (lw_V q1605 q1607 qs105 q118 q1608) nmv_X3_move rfl (by omega) (by decide) rfl (fun h => sh_k1 h 52 rfl) rfl (Nat.le_of_ble_eq_true rfl) dX3_leastTrip_89 (fun _ M18 => ?_)
        exact J_sub (A := [some (.ref 72), some (.int c1), some (.int c2), none, some (.int v4), some (.int v5), none, none]) ⟨rfl, ⟨rfl, ⟨rfl, ⟨rfl, ⟨rfl, trivial⟩⟩⟩⟩⟩ (hj1 M18)

def m_leastTrip (p1 : Int32) (p2 : Int32) (M : PM) : Option (Int32 × PM) :=
    bd (m_openOf p1 M) fun v1 M1 =>
    m_leastTrip_L9 p1 p2 v1 (fun (M4 : PM) =>
    ck p1 44 <|
    ck ((256 * (M4.i 73 (ix p1))) + (255 &&& (v1 ^^^ (-1)))) 1536 <|
    lt (M4.si 94 (ix ((256 * (M4.i 73 (ix p1))) + (255 &&& (v1 ^^^ (-1))))) 0) fun M5 =>
    lt (M5.si 72 40 (-1)) fun M6 =>
    lt (M6.si 72 42 (-1)) fun M7 =>
    m_leastTrip_L77 p1 p2 FU 100000000 0 M7) FU 0 M1

set_option maxHeartbeats 4000000 in
theorem t_m_leastTrip (G : JG) (p1 : Int32) (p2 : Int32) (M : PM) : T_m_leastTrip G  M 0 (ent [.ref 72, .int p1, .int p2] 8) [] (m_leastTrip p1 p2 M) := by
  unfold m_leastTrip
  refine J_aload_n (pc := 0) dX3_leastTrip_0 rfl ?_
  refine J_iload_n (pc := 1) dX3_leastTrip_1 rfl ?_
  refine J_callV (pc := 2) (n := 1) (b := 72) (vs := [.int p1]) (ci := 2) (fun l => C_m_openOf l p1 M) (lw_V q1414 q1416 qs82 q118 q1417) nmv_X3_openOf rfl (by omega) (by decide) rfl (fun h => sh_k1 h 52 rfl) rfl (Nat.le_of_ble_eq_true rfl) dX3_leastTrip_2 (fun v1 M1 => ?_)
  refine J_istore_n (pc := 5) dX3_leastTrip_5 (by decide) ?_
  refine J_iconst (pc := 6) 0 dX3_leastTrip_6 (by decide) ?_
  refine J_istore (pc := 7) dX3_leastTrip_7 (by decide) ?_
  refine J_sub (A := [some (.ref 72), some (.int p1), some (.int p2), some (.int v1), some (.int 0), none, none, none]) ⟨rfl, ⟨rfl, ⟨rfl, ⟨rfl, ⟨rfl, trivial⟩⟩⟩⟩⟩ (t_m_leastTrip_L9 G p1 p2 v1 _ ?_ FU 0 M1)
  · intro M4
    refine J_aload_n (pc := 35) dX3_leastTrip_35 rfl ?_
    refine J_get (pc := 36) (c := 2) (.ref 94) rfl in_X3 38 (by decide) q1145 rfl (fun h => sh_k1 h 52 rfl) (fun h _ => fv_ref (Or.inr ⟨_, rfl⟩) (sh_r h 70 rfl)) dX3_leastTrip_36 ?_
    refine J_sipush (pc := 39) 256 dX3_leastTrip_39 (by decide) ?_
    refine J_aload_n (pc := 42) dX3_leastTrip_42 rfl ?_
    refine J_get (pc := 43) (c := 2) (.ref 73) rfl in_X3 0 (by decide) q1107 rfl (fun h => sh_k1 h 52 rfl) (fun h _ => fv_ref (Or.inr ⟨_, rfl⟩) (sh_r h 51 rfl)) dX3_leastTrip_43 ?_
    refine J_iload_n (pc := 46) dX3_leastTrip_46 rfl ?_
    refine J_ck (fun h2 => ?_)
    refine J_iald (pc := 47) (a := 73) (fun h => sh_a h 53 rfl h2) dX3_leastTrip_47 ?_
    refine J_imul (pc := 48) dX3_leastTrip_48 ?_
    refine J_sipush (pc := 49) 255 dX3_leastTrip_49 (by decide) ?_
    refine J_iload_n (pc := 52) dX3_leastTrip_52 rfl ?_
    refine J_iconst (pc := 53) (-1) dX3_leastTrip_53 (by decide) ?_
    refine J_ixor (pc := 54) dX3_leastTrip_54 ?_
    refine J_iand (pc := 55) dX3_leastTrip_55 ?_
    refine J_iadd (pc := 56) dX3_leastTrip_56 ?_
    refine J_iconst (pc := 57) 0 dX3_leastTrip_57 (by decide) ?_
    refine J_ck (fun h3 => ?_)
    refine J_iast (pc := 58) (a := 94) (fun h => sh_a h 74 rfl h3) (fun h => Sh_si h) dX3_leastTrip_58 ?_
    refine J_ltM (fun M5 => ?_)
    refine J_ldcw (pc := 59) 100000000 q1536 dX3_leastTrip_59 ?_
    refine J_istore (pc := 62) dX3_leastTrip_62 (by decide) ?_
    refine J_aload_n (pc := 64) dX3_leastTrip_64 rfl ?_
    refine J_iconst (pc := 65) (-1) dX3_leastTrip_65 (by decide) ?_
    refine J_put (pc := 66) (a := 72) (v := .int (-1)) (M' := M5.si 72 40 (-1)) (c := 2) rfl in_X3 tyX3_ok fnX3 40 (by decide) q1147 rfl (Or.inl rfl) (fun h => sh_k1 h 52 rfl) (fun _ => rfl) (fun _ => rfl) ⟨⟨rfl, rfl⟩, rfl⟩ (fun _ hb => up2_same hb) (fun _ _ => rfl) (fun _ _ => rfl) (put_i (fun _ _ _ => rfl)) (fun h => Sh_si h) dX3_leastTrip_66 ?_
    refine J_ltM (fun M6 => ?_)
    refine J_aload_n (pc := 69) dX3_leastTrip_69 rfl ?_
    refine J_iconst (pc := 70) (-1) dX3_leastTrip_70 (by decide) ?_
    refine J_put (pc := 71) (a := 72) (v := .int (-1)) (M' := M6.si 72 42 (-1)) (c := 2) rfl in_X3 tyX3_ok fnX3 42 (by decide) q1149 rfl (Or.inl rfl) (fun h => sh_k1 h 52 rfl) (fun _ => rfl) (fun _ => rfl) ⟨⟨rfl, rfl⟩, rfl⟩ (fun _ hb => up2_same hb) (fun _ _ => rfl) (fun _ _ => rfl) (put_i (fun _ _ _ => rfl)) (fun h => Sh_si h) dX3_leastTrip_71 ?_
    refine J_ltM (fun M7 => ?_)
    refine J_iconst (pc := 74) 0 dX3_leastTrip_74 (by decide) ?_
    refine J_istore (pc := 75) dX3_leastTrip_75 (by decide) ?_
    refine J_sub (A := [some (.ref 72), some (.int p1), some (.int p2), none, some (.int 100000000), some (.int 0), none, none]) ⟨rfl, ⟨rfl, ⟨rfl, ⟨rfl, ⟨rfl, trivial⟩⟩⟩⟩⟩ (t_m_leastTrip_L77 G p1 p2  FU 100000000 0 M7)

theorem C_m_leastTrip (l : Launch) (p1 : Int32) (p2 : Int32) (M : PM) : Ctr l Sh yX3_leastTrip cX3_leastTrip 8 (some .int) 143 rvI [.ref 72, .int p1, .int p2] M (m_leastTrip p1 p2 M) := Ctr.of (by decide +kernel) (Nat.le_of_ble_eq_true rfl) (fun G => t_m_leastTrip G p1 p2 M)

abbrev T_m_trip (G : JG) (M : PM) (pc : Nat) (L : List (Option Value)) (S : List Value) (o : Option (Int32 × PM)) : Prop := JJ G cX3_trip yX3_trip 4 144 (some .int) Sh (finR G Sh rvI) M pc L S o
def m_trip (p1 : Int32) (p2 : Int32) (M : PM) : Option (Int32 × PM) :=
    lt (M.si 72 13 0) fun M1 =>
    bd (m_isOne p1 M1) fun v1 M2 =>
    if v1 = 0 then (some ((-1), M2))
    else (bd (m_in p2 0 12 M2) fun v2 M3 =>
    if v2 = 0 then (some ((-1), M3))
    else (bd (m_leastTrip p1 p2 M3) fun v3 M4 =>
    if v3 < 100000000 then (lt (M4.si 72 12 0) fun M5 =>
    bd (m_tell (Int32.toInt64 (M5.i 72 42)) M5) fun _ M6 =>
    bd (m_openOf p1 M6) fun v4 M7 =>
    bd (jl_bitCount v4 M7) fun v5 M8 =>
    bd (m_tell (Int32.toInt64 v5) M8) fun _ M9 =>
    some (v3, M9))
    else (some ((-2), M4))))

set_option maxHeartbeats 4000000 in
theorem t_m_trip (G : JG) (p1 : Int32) (p2 : Int32) (M : PM) : T_m_trip G  M 0 (ent [.ref 72, .int p1, .int p2] 4) [] (m_trip p1 p2 M) := by
  unfold m_trip
  refine J_aload_n (pc := 0) dX3_trip_0 rfl ?_
  refine J_iconst (pc := 1) 0 dX3_trip_1 (by decide) ?_
  refine J_put (pc := 2) (a := 72) (v := .int 0) (M' := M.si 72 13 0) (c := 2) rfl in_X3 tyX3_ok fnX3 13 (by decide) q1120 rfl (Or.inl rfl) (fun h => sh_k1 h 52 rfl) (fun _ => rfl) (fun _ => rfl) ⟨⟨rfl, rfl⟩, rfl⟩ (fun _ hb => up2_same hb) (fun _ _ => rfl) (fun _ _ => rfl) (put_i (fun _ _ _ => rfl)) (fun h => Sh_si h) dX3_trip_2 ?_
  refine J_ltM (fun M1 => ?_)
  refine J_aload_n (pc := 5) dX3_trip_5 rfl ?_
  refine J_iload_n (pc := 6) dX3_trip_6 rfl ?_
  refine J_callV (pc := 7) (n := 1) (b := 72) (vs := [.int p1]) (ci := 2) (fun l => C_m_isOne l p1 M1) (lw_V q1410 q1412 qs81 q118 q1413) nmv_X3_isOne rfl (by omega) (by decide) rfl (fun h => sh_k1 h 52 rfl) rfl (Nat.le_of_ble_eq_true rfl) dX3_trip_7 (fun v1 M2 => ?_)
  refine J_if_eq (pc := 10) 23 dX3_trip_10 rfl (fun h => if_pos h) (fun h => if_neg h) (fun _ => ?_) (fun _ => ?_)
  · refine J_iconst (pc := 23) (-1) dX3_trip_23 (by decide) ?_
    exact J_iret (pc := 24) dX3_trip_24
  · refine J_iload_n (pc := 13) dX3_trip_13 rfl ?_
    refine J_iconst (pc := 14) 0 dX3_trip_14 (by decide) ?_
    refine J_bipush (pc := 15) 12 dX3_trip_15 (by decide) ?_
    refine J_callS (pc := 17) (n := 3) (vs := [.int p2, .int 0, .int 12]) (fun l => C_m_in l p2 0 12 M2) (lw_S q1289 q1290 q118 q1291) nmh_X3_in rfl (by omega) (by decide) rfl (Nat.le_of_ble_eq_true rfl) dX3_trip_17 (fun v2 M3 => ?_)
    refine J_if_ne (pc := 20) 25 dX3_trip_20 rfl (fun h => if_neg h) (fun h => if_pos h) (fun _ => ?_) (fun _ => ?_)
    · refine J_aload_n (pc := 25) dX3_trip_25 rfl ?_
      refine J_iload_n (pc := 26) dX3_trip_26 rfl ?_
      refine J_iload_n (pc := 27) dX3_trip_27 rfl ?_
      refine J_callV (pc := 28) (n := 2) (b := 72) (vs := [.int p1, .int p2]) (ci := 2) (fun l => C_m_leastTrip l p1 p2 M3) (lw_V q1601 q1603 qs104 q118 q1604) nmv_X3_leastTrip rfl (by omega) (by decide) rfl (fun h => sh_k1 h 52 rfl) rfl (Nat.le_of_ble_eq_true rfl) dX3_trip_28 (fun v3 M4 => ?_)
      refine J_istore_n (pc := 31) dX3_trip_31 (by decide) ?_
      refine J_iload_n (pc := 32) dX3_trip_32 rfl ?_
      refine J_ldcw (pc := 33) 100000000 q1536 dX3_trip_33 ?_
      refine J_icmp_lt (pc := 36) 42 dX3_trip_36 rfl (fun h => if_pos h) (fun h => if_neg h) (fun _ => ?_) (fun _ => ?_)
      · refine J_aload_n (pc := 42) dX3_trip_42 rfl ?_
        refine J_iconst (pc := 43) 0 dX3_trip_43 (by decide) ?_
        refine J_put (pc := 44) (a := 72) (v := .int 0) (M' := M4.si 72 12 0) (c := 2) rfl in_X3 tyX3_ok fnX3 12 (by decide) q1119 rfl (Or.inl rfl) (fun h => sh_k1 h 52 rfl) (fun _ => rfl) (fun _ => rfl) ⟨⟨rfl, rfl⟩, rfl⟩ (fun _ hb => up2_same hb) (fun _ _ => rfl) (fun _ _ => rfl) (put_i (fun _ _ _ => rfl)) (fun h => Sh_si h) dX3_trip_44 ?_
        refine J_ltM (fun M5 => ?_)
        refine J_aload_n (pc := 47) dX3_trip_47 rfl ?_
        refine J_aload_n (pc := 48) dX3_trip_48 rfl ?_
        refine J_get (pc := 49) (c := 2) (.int (M5.i 72 42)) rfl in_X3 42 (by decide) q1149 rfl (fun h => sh_k1 h 52 rfl) (fun _ _ => rfl) dX3_trip_49 ?_
        refine J_i2l (pc := 52) dX3_trip_52 ?_
        refine J_callV (pc := 53) (n := 1) (b := 72) (vs := [.long (Int32.toInt64 (M5.i 72 42))]) (ci := 2) (fun l => C_m_tell l (Int32.toInt64 (M5.i 72 42)) M5) (lw_V q1455 q1457 qs87 q118 q1458) nmv_X3_tell rfl (by omega) (by decide) rfl (fun h => sh_k1 h 52 rfl) rfl (Nat.le_of_ble_eq_true rfl) dX3_trip_53 (fun _ M6 => ?_)
        refine J_aload_n (pc := 56) dX3_trip_56 rfl ?_
        refine J_aload_n (pc := 57) dX3_trip_57 rfl ?_
        refine J_iload_n (pc := 58) dX3_trip_58 rfl ?_
        refine J_callV (pc := 59) (n := 1) (b := 72) (vs := [.int p1]) (ci := 2) (fun l => C_m_openOf l p1 M6) (lw_V q1414 q1416 qs82 q118 q1417) nmv_X3_openOf rfl (by omega) (by decide) rfl (fun h => sh_k1 h 52 rfl) rfl (Nat.le_of_ble_eq_true rfl) dX3_trip_59 (fun v4 M7 => ?_)
        refine J_callS (pc := 62) (n := 1) (vs := [.int v4]) (fun l => C_jl_bitCount l v4 M7) (lw_S q1588 q867 q135 q868) nmh_J10_bitCount rfl (by omega) (by decide) rfl (Nat.le_of_ble_eq_true rfl) dX3_trip_62 (fun v5 M8 => ?_)
        refine J_i2l (pc := 65) dX3_trip_65 ?_
        refine J_callV (pc := 66) (n := 1) (b := 72) (vs := [.long (Int32.toInt64 v5)]) (ci := 2) (fun l => C_m_tell l (Int32.toInt64 v5) M8) (lw_V q1455 q1457 qs87 q118 q1458) nmv_X3_tell rfl (by omega) (by decide) rfl (fun h => sh_k1 h 52 rfl) rfl (Nat.le_of_ble_eq_true rfl) dX3_trip_66 (fun _ M9 => ?_)
        refine J_iload_n (pc := 69) dX3_trip_69 rfl ?_
        exact J_iret (pc := 70) dX3_trip_70
      · refine J_bipush (pc := 39) (-2) dX3_trip_39 (by decide) ?_
        exact J_iret (pc := 41) dX3_trip_41
    · refine J_iconst (pc := 23) (-1) dX3_trip_23 (by decide) ?_
      exact J_iret (pc := 24) dX3_trip_24

theorem C_m_trip (l : Launch) (p1 : Int32) (p2 : Int32) (M : PM) : Ctr l Sh yX3_trip cX3_trip 4 (some .int) 144 rvI [.ref 72, .int p1, .int p2] M (m_trip p1 p2 M) := Ctr.of (by decide +kernel) (Nat.le_of_ble_eq_true rfl) (fun G => t_m_trip G p1 p2 M)

abbrev T_m_haste (G : JG) (M : PM) (pc : Nat) (L : List (Option Value)) (S : List Value) (o : Option (Int32 × PM)) : Prop := JJ G cX3_haste yX3_haste 2 144 (some .int) Sh (finR G Sh rvI) M pc L S o
def m_haste (p1 : Int32) (M : PM) : Option (Int32 × PM) :=
    lt (M.si 72 13 0) fun M1 =>
    bd (m_isOne p1 M1) fun v1 M2 =>
    if v1 = 0 then (some ((-1), M2))
    else (bd (m_leastTrip p1 12 M2) fun v2 M3 =>
    if v2 < 100000000 then (lt (M3.si 72 12 0) fun M4 =>
    bd (m_tell (Int32.toInt64 (M4.i 72 41)) M4) fun _ M5 =>
    some ((M5.i 72 40), M5))
    else (some ((-2), M3)))

set_option maxHeartbeats 4000000 in
theorem t_m_haste (G : JG) (p1 : Int32) (M : PM) : T_m_haste G  M 0 (ent [.ref 72, .int p1] 2) [] (m_haste p1 M) := by
  unfold m_haste
  refine J_aload_n (pc := 0) dX3_haste_0 rfl ?_
  refine J_iconst (pc := 1) 0 dX3_haste_1 (by decide) ?_
  refine J_put (pc := 2) (a := 72) (v := .int 0) (M' := M.si 72 13 0) (c := 2) rfl in_X3 tyX3_ok fnX3 13 (by decide) q1120 rfl (Or.inl rfl) (fun h => sh_k1 h 52 rfl) (fun _ => rfl) (fun _ => rfl) ⟨⟨rfl, rfl⟩, rfl⟩ (fun _ hb => up2_same hb) (fun _ _ => rfl) (fun _ _ => rfl) (put_i (fun _ _ _ => rfl)) (fun h => Sh_si h) dX3_haste_2 ?_
  refine J_ltM (fun M1 => ?_)
  refine J_aload_n (pc := 5) dX3_haste_5 rfl ?_
  refine J_iload_n (pc := 6) dX3_haste_6 rfl ?_
  refine J_callV (pc := 7) (n := 1) (b := 72) (vs := [.int p1]) (ci := 2) (fun l => C_m_isOne l p1 M1) (lw_V q1410 q1412 qs81 q118 q1413) nmv_X3_isOne rfl (by omega) (by decide) rfl (fun h => sh_k1 h 52 rfl) rfl (Nat.le_of_ble_eq_true rfl) dX3_haste_7 (fun v1 M2 => ?_)
  refine J_if_ne (pc := 10) 15 dX3_haste_10 rfl (fun h => if_neg h) (fun h => if_pos h) (fun _ => ?_) (fun _ => ?_)
  · refine J_aload_n (pc := 15) dX3_haste_15 rfl ?_
    refine J_iload_n (pc := 16) dX3_haste_16 rfl ?_
    refine J_bipush (pc := 17) 12 dX3_haste_17 (by decide) ?_
    refine J_callV (pc := 19) (n := 2) (b := 72) (vs := [.int p1, .int 12]) (ci := 2) (fun l => C_m_leastTrip l p1 12 M2) (lw_V q1601 q1603 qs104 q118 q1604) nmv_X3_leastTrip rfl (by omega) (by decide) rfl (fun h => sh_k1 h 52 rfl) rfl (Nat.le_of_ble_eq_true rfl) dX3_haste_19 (fun v2 M3 => ?_)
    refine J_ldcw (pc := 22) 100000000 q1536 dX3_haste_22 ?_
    refine J_icmp_lt (pc := 25) 31 dX3_haste_25 rfl (fun h => if_pos h) (fun h => if_neg h) (fun _ => ?_) (fun _ => ?_)
    · refine J_aload_n (pc := 31) dX3_haste_31 rfl ?_
      refine J_iconst (pc := 32) 0 dX3_haste_32 (by decide) ?_
      refine J_put (pc := 33) (a := 72) (v := .int 0) (M' := M3.si 72 12 0) (c := 2) rfl in_X3 tyX3_ok fnX3 12 (by decide) q1119 rfl (Or.inl rfl) (fun h => sh_k1 h 52 rfl) (fun _ => rfl) (fun _ => rfl) ⟨⟨rfl, rfl⟩, rfl⟩ (fun _ hb => up2_same hb) (fun _ _ => rfl) (fun _ _ => rfl) (put_i (fun _ _ _ => rfl)) (fun h => Sh_si h) dX3_haste_33 ?_
      refine J_ltM (fun M4 => ?_)
      refine J_aload_n (pc := 36) dX3_haste_36 rfl ?_
      refine J_aload_n (pc := 37) dX3_haste_37 rfl ?_
      refine J_get (pc := 38) (c := 2) (.int (M4.i 72 41)) rfl in_X3 41 (by decide) q1148 rfl (fun h => sh_k1 h 52 rfl) (fun _ _ => rfl) dX3_haste_38 ?_
      refine J_i2l (pc := 41) dX3_haste_41 ?_
      refine J_callV (pc := 42) (n := 1) (b := 72) (vs := [.long (Int32.toInt64 (M4.i 72 41))]) (ci := 2) (fun l => C_m_tell l (Int32.toInt64 (M4.i 72 41)) M4) (lw_V q1455 q1457 qs87 q118 q1458) nmv_X3_tell rfl (by omega) (by decide) rfl (fun h => sh_k1 h 52 rfl) rfl (Nat.le_of_ble_eq_true rfl) dX3_haste_42 (fun _ M5 => ?_)
      refine J_aload_n (pc := 45) dX3_haste_45 rfl ?_
      refine J_get (pc := 46) (c := 2) (.int (M5.i 72 40)) rfl in_X3 40 (by decide) q1147 rfl (fun h => sh_k1 h 52 rfl) (fun _ _ => rfl) dX3_haste_46 ?_
      exact J_iret (pc := 49) dX3_haste_49
    · refine J_bipush (pc := 28) (-2) dX3_haste_28 (by decide) ?_
      exact J_iret (pc := 30) dX3_haste_30
  · refine J_iconst (pc := 13) (-1) dX3_haste_13 (by decide) ?_
    exact J_iret (pc := 14) dX3_haste_14

theorem C_m_haste (l : Launch) (p1 : Int32) (M : PM) : Ctr l Sh yX3_haste cX3_haste 2 (some .int) 144 rvI [.ref 72, .int p1] M (m_haste p1 M) := Ctr.of (by decide +kernel) (Nat.le_of_ble_eq_true rfl) (fun G => t_m_haste G p1 M)

abbrev T_m_best (G : JG) (M : PM) (pc : Nat) (L : List (Option Value)) (S : List Value) (o : Option (Int32 × PM)) : Prop := JJ G cX3_best yX3_best 10 144 (some .int) Sh (finR G Sh rvI) M pc L S o
def m_best_L19 (c1 : Int32) (k90 : Int32 → PM → Option (Int32 × PM)) : Nat → Int32 → Int32 → PM → Option (Int32 × PM)
  | 0, _, _, _ => none
  | n + 1, v2, v3, M3 =>
    if (M3.i 72 7) ≤ v3 then (k90 v2 M3)
    else (bd (m_openOf c1 M3) fun v4 M4 =>
    bd (m_has v4 v3 M4) fun v5 M5 =>
    jn (fun (v6 : Int32) (M6 : PM) =>
    lt (v2 ||| v6) fun v7 =>
    lt (v3 + 1) fun v8 =>
    m_best_L19 c1 k90 n v7 v8 M6) fun j1 =>
    if v5 = 0 then (j1 0 M5)
    else (bd (m_field v3 2 M5) fun v9 M7 =>
    ck c1 44 <|
    if v9 = (M7.i 73 (ix c1)) then (bd (m_field v3 1 M7) fun v10 M8 =>
    ck c1 44 <|
    bd (m_cheapestOf v10 (M8.i 73 (ix c1)) M8) fun v11 M9 =>
    if v11 = (-1) then (j1 0 M9)
    else (j1 (1 <<< (v3 &&& 31)) M9))
    else (j1 0 M7)))

set_option maxHeartbeats 4000000 in
theorem t_m_best_L19 (G : JG) (c1 : Int32) (k90 : Int32 → PM → Option (Int32 × PM)) (hk90 : ∀ z2 Me, T_m_best G  Me 90 [some (.ref 72), some (.int c1), some (.int z2), none, none, none, none, none, none, none] [] (k90 z2 Me)) : ∀ (n : Nat) (v2 : Int32) (v3 : Int32) (M3 : PM), T_m_best G  M3 19 [some (.ref 72), some (.int c1), some (.int v2), some (.int v3), none, none, none, none, none, none] [] (m_best_L19 c1 k90 n v2 v3 M3) := by
  intro n
  induction n with
  | zero =>
    intro v2 v3 M3
    exact J_none
  | succ n ih =>
    intro v2 v3 M3
    rw [m_best_L19]
    refine J_iload_n (pc := 19) dX3_best_19 rfl ?_
    refine J_aload_n (pc := 20) dX3_best_20 rfl ?_
    refine J_get (pc := 21) (c := 2) (.int (M3.i 72 7)) rfl in_X3 7 (by decide) q1114 rfl (fun h => sh_k1 h 52 rfl) (fun _ _ => rfl) dX3_best_21 ?_
    refine J_icmp_ge (pc := 24) 90 dX3_best_24 rfl (fun h => if_pos h) (fun h => if_neg h) (fun _ => ?_) (fun _ => ?_)
    · exact J_sub (A := [some (.ref 72), some (.int c1), some (.int v2), none, none, none, none, none, none, none]) ⟨rfl, ⟨rfl, ⟨rfl, trivial⟩⟩⟩ (hk90 v2 M3)
    · refine J_iload_n (pc := 27) dX3_best_27 rfl ?_
      refine J_aload_n (pc := 28) dX3_best_28 rfl ?_
      refine J_iload_n (pc := 29) dX3_best_29 rfl ?_
      refine J_callV (pc := 30) (n := 1) (b := 72) (vs := [.int c1]) (ci := 2) (fun l => C_m_openOf l c1 M3) (lw_V q1414 q1416 qs82 q118 q1417) nmv_X3_openOf rfl (by omega) (by decide) rfl (fun h => sh_k1 h 52 rfl) rfl (Nat.le_of_ble_eq_true rfl) dX3_best_30 (fun v4 M4 => ?_)
      refine J_iload_n (pc := 33) dX3_best_33 rfl ?_
      refine J_callS (pc := 34) (n := 2) (vs := [.int v4, .int v3]) (fun l => C_m_has l v4 v3 M4) (lw_S q1422 q1423 q118 q1424) nmh_X3_has rfl (by omega) (by decide) rfl (Nat.le_of_ble_eq_true rfl) dX3_best_34 (fun v5 M5 => ?_)
      refine J_jn (P := fun J => ∀ (v6 : Int32) (M6 : PM), T_m_best G  M6 82 [some (.ref 72), some (.int c1), none, some (.int v3), none, none, none, none, none, none] [.int v6, .int v2] (J v6 M6)) (fun v6 M6 => ?_) (fun j1 hj1 => ?_)
      · refine J_ior (pc := 82) dX3_best_82 ?_
        refine J_lt (β := Int32) (v := (v2 ||| v6)) (L := fun _ => _) (S := fun v7 => [.int v7]) (fun v7 => ?_)
        refine J_istore_n (pc := 83) dX3_best_83 (by decide) ?_
        refine J_iincL (pc := 84) (n := 1) (by decide) dX3_best_84 rfl (by decide) (fun v8 => ?_)
        refine J_goto (pc := 87) 19 dX3_best_87 rfl ?_
        exact J_sub (A := [some (.ref 72), some (.int c1), some (.int v7), some (.int v8), none, none, none, none, none, none]) ⟨rfl, ⟨rfl, ⟨rfl, ⟨rfl, trivial⟩⟩⟩⟩ (ih v7 v8 M6)
      refine J_if_eq (pc := 37) 81 dX3_best_37 rfl (fun h => if_pos h) (fun h => if_neg h) (fun _ => ?_) (fun _ => ?_)
      · refine J_iconst (pc := 81) 0 dX3_best_81 (by decide) ?_
        exact J_sub (A := [some (.ref 72), some (.int c1), none, some (.int v3), none, none, none, none, none, none]) ⟨rfl, ⟨rfl, ⟨rfl, trivial⟩⟩⟩ (hj1 0 M5)
      · refine J_aload_n (pc := 40) dX3_best_40 rfl ?_
        refine J_iload_n (pc := 41) dX3_best_41 rfl ?_
        refine J_iconst (pc := 42) 2 dX3_best_42 (by decide) ?_
        refine J_callV (pc := 43) (n := 2) (b := 72) (vs := [.int v3, .int 2]) (ci := 2) (fun l => C_m_field l v3 2 M5) (lw_V q1418 q1420 qs83 q118 q1421) nmv_X3_field rfl (by omega) (by decide) rfl (fun h => sh_k1 h 52 rfl) rfl (Nat.le_of_ble_eq_true rfl) dX3_best_43 (fun v9 M7 => ?_)
        refine J_aload_n (pc := 46) dX3_best_46 rfl ?_
        refine J_get (pc := 47) (c := 2) (.ref 73) rfl in_X3 0 (by decide) q1107 rfl (fun h => sh_k1 h 52 rfl) (fun h _ => fv_ref (Or.inr ⟨_, rfl⟩) (sh_r h 51 rfl)) dX3_best_47 ?_
        refine J_iload_n (pc := 50) dX3_best_50 rfl ?_
        refine J_ck (fun h1 => ?_)
        refine J_iald (pc := 51) (a := 73) (fun h => sh_a h 53 rfl h1) dX3_best_51 ?_
        refine J_icmp_ne (pc := 52) 81 dX3_best_52 rfl (fun h => if_neg h) (fun h => if_pos h) (fun _ => ?_) (fun _ => ?_)
        · refine J_iconst (pc := 81) 0 dX3_best_81 (by decide) ?_
          exact J_sub (A := [some (.ref 72), some (.int c1), none, some (.int v3), none, none, none, none, none, none]) ⟨rfl, ⟨rfl, ⟨rfl, trivial⟩⟩⟩ (hj1 0 M7)
        · refine J_aload_n (pc := 55) dX3_best_55 rfl ?_
          refine J_aload_n (pc := 56) dX3_best_56 rfl ?_
          refine J_iload_n (pc := 57) dX3_best_57 rfl ?_
          refine J_iconst (pc := 58) 1 dX3_best_58 (by decide) ?_
          refine J_callV (pc := 59) (n := 2) (b := 72) (vs := [.int v3, .int 1]) (ci := 2) (fun l => C_m_field l v3 1 M7) (lw_V q1418 q1420 qs83 q118 q1421) nmv_X3_field rfl (by omega) (by decide) rfl (fun h => sh_k1 h 52 rfl) rfl (Nat.le_of_ble_eq_true rfl) dX3_best_59 (fun v10 M8 => ?_)
          refine J_aload_n (pc := 62) dX3_best_62 rfl ?_
          refine J_get (pc := 63) (c := 2) (.ref 73) rfl in_X3 0 (by decide) q1107 rfl (fun h => sh_k1 h 52 rfl) (fun h _ => fv_ref (Or.inr ⟨_, rfl⟩) (sh_r h 51 rfl)) dX3_best_63 ?_
          refine J_iload_n (pc := 66) dX3_best_66 rfl ?_
          refine J_ck (fun h2 => ?_)
          refine J_iald (pc := 67) (a := 73) (fun h => sh_a h 53 rfl h2) dX3_best_67 ?_
          refine J_callV (pc := 68) (n := 2) (b := 72) (vs := [.int v10, .int (M8.i 73 (ix c1))]) (ci := 2) (fun l => C_m_cheapestOf l v10 (M8.i 73 (ix c1)) M8) (lw_V q1517 q1519 qs96 q118 q1520) nmv_X3_cheapestOf rfl (by omega) (by decide) rfl (fun h => sh_k1 h 52 rfl) rfl (Nat.le_of_ble_eq_true rfl) dX3_best_68 (fun v11 M9 => ?_)
          refine J_iconst (pc := 71) (-1) dX3_best_71 (by decide) ?_
          refine J_icmp_eq (pc := 72) 81 dX3_best_72 rfl (fun h => if_pos h) (fun h => if_neg h) (fun _ => ?_) (fun _ => ?_)
          · refine J_iconst (pc := 81) 0 dX3_best_81 (by decide) ?_
            exact J_sub (A := [some (.ref 72), some (.int c1), none, some (.int v3), none, none, none, none, none, none]) ⟨rfl, ⟨rfl, ⟨rfl, trivial⟩⟩⟩ (hj1 0 M9)
          · refine J_iconst (pc := 75) 1 dX3_best_75 (by decide) ?_
            refine J_iload_n (pc := 76) dX3_best_76 rfl ?_
            refine J_ishl (pc := 77) dX3_best_77 ?_
            refine J_goto (pc := 78) 82 dX3_best_78 rfl ?_
            exact J_sub (A := [some (.ref 72), some (.int c1), none, some (.int v3), none, none, none, none, none, none]) ⟨rfl, ⟨rfl, ⟨rfl, trivial⟩⟩⟩ (hj1 (1 <<< (v3 &&& 31)) M9)

def m_best_L128 (c1 : Int32) (c2 : Int32) (c3 : Int32) (c4 : Int32) (c5 : Int32) (c6 : Int32) (k200 : Int32 → Int32 → PM → Option (Int32 × PM)) : Nat → Int32 → Int32 → Int32 → PM → Option (Int32 × PM)
  | 0, _, _, _, _ => none
  | n + 1, v21, v22, v23, M13 =>
    if (M13.i 72 7) ≤ v23 then (k200 v21 v22 M13)
    else (bd (m_has c6 v23 M13) fun v24 M14 =>
    jn (fun (v25 : Int32) (v26 : Int32) (M15 : PM) =>
    lt (v23 + 1) fun v27 =>
    m_best_L128 c1 c2 c3 c4 c5 c6 k200 n v25 v26 v27 M15) fun j3 =>
    if v24 = 0 then (j3 v21 v22 M14)
    else (bd (m_field v23 3 M14) fun v28 M16 =>
    lt (v21 + v28) fun v29 =>
    bd (m_field v23 1 M16) fun v30 M17 =>
    ck c1 44 <|
    bd (m_cheapestOf v30 (M17.i 73 (ix c1)) M17) fun v31 M18 =>
    ck c1 44 <|
    bd (m_tollNow v31 (M18.i 73 (ix c1)) M18) fun v32 M19 =>
    lt (v22 + v32) fun v33 =>
    j3 v29 v33 M19))

set_option maxHeartbeats 4000000 in
theorem t_m_best_L128 (G : JG) (c1 : Int32) (c2 : Int32) (c3 : Int32) (c4 : Int32) (c5 : Int32) (c6 : Int32) (k200 : Int32 → Int32 → PM → Option (Int32 × PM)) (hk200 : ∀ z7 z8 Me, T_m_best G  Me 200 [some (.ref 72), some (.int c1), some (.int c2), some (.int c3), some (.int c4), some (.int c5), some (.int c6), some (.int z7), some (.int z8), none] [] (k200 z7 z8 Me)) : ∀ (n : Nat) (v21 : Int32) (v22 : Int32) (v23 : Int32) (M13 : PM), T_m_best G  M13 128 [some (.ref 72), some (.int c1), some (.int c2), some (.int c3), some (.int c4), some (.int c5), some (.int c6), some (.int v21), some (.int v22), some (.int v23)] [] (m_best_L128 c1 c2 c3 c4 c5 c6 k200 n v21 v22 v23 M13) := by
  intro n
  induction n with
  | zero =>
    intro v21 v22 v23 M13
    exact J_none
  | succ n ih =>
    intro v21 v22 v23 M13
    rw [m_best_L128]
    refine J_iload (pc := 128) dX3_best_128 rfl ?_
    refine J_aload_n (pc := 130) dX3_best_130 rfl ?_
    refine J_get (pc := 131) (c := 2) (.int (M13.i 72 7)) rfl in_X3 7 (by decide) q1114 rfl (fun h => sh_k1 h 52 rfl) (fun _ _ => rfl) dX3_best_131 ?_
    refine J_icmp_ge (pc := 134) 200 dX3_best_134 rfl (fun h => if_pos h) (fun h => if_neg h) (fun _ => ?_) (fun _ => ?_)
    · exact J_sub (A := [some (.ref 72), some (.int c1), some (.int c2), some (.int c3), some (.int c4), some (.int c5), some (.int c6), some (.int v21), some (.int v22), none]) ⟨rfl, ⟨rfl, ⟨rfl, ⟨rfl, ⟨rfl, ⟨rfl, ⟨rfl, ⟨rfl, ⟨rfl, trivial⟩⟩⟩⟩⟩⟩⟩⟩⟩ (hk200 v21 v22 M13)
    · refine J_iload (pc := 137) dX3_best_137 rfl ?_
      refine J_iload (pc := 139) dX3_best_139 rfl ?_
      refine J_callS (pc := 141) (n := 2) (vs := [.int c6, .int v23]) (fun l => C_m_has l c6 v23 M13) (lw_S q1422 q1423 q118 q1424) nmh_X3_has rfl (by omega) (by decide) rfl (Nat.le_of_ble_eq_true rfl) dX3_best_141 (fun v24 M14 => ?_)
      refine J_jn (P := fun J => ∀ (v25 : Int32) (v26 : Int32) (M15 : PM), T_m_best G  M15 194 [some (.ref 72), some (.int c1), some (.int c2), some (.int c3), some (.int c4), some (.int c5), some (.int c6), some (.int v25), some (.int v26), some (.int v23)] [] (J v25 v26 M15)) (fun v25 v26 M15 => ?_) (fun j3 hj3 => ?_)
      · refine J_iincL (pc := 194) (n := 1) (by decide) dX3_best_194 rfl (by decide) (fun v27 => ?_)
        refine J_goto (pc := 197) 128 dX3_best_197 rfl ?_
        exact J_sub (A := [some (.ref 72), some (.int c1), some (.int c2), some (.int c3), some (.int c4), some (.int c5), some (.int c6), some (.int v25), some (.int v26), some (.int v27)]) ⟨rfl, ⟨rfl, ⟨rfl, ⟨rfl, ⟨rfl, ⟨rfl, ⟨rfl, ⟨rfl, ⟨rfl, ⟨rfl, trivial⟩⟩⟩⟩⟩⟩⟩⟩⟩⟩ (ih v25 v26 v27 M15)
      refine J_if_ne (pc := 144) 150 dX3_best_144 rfl (fun h => if_neg h) (fun h => if_pos h) (fun _ => ?_) (fun _ => ?_)
      · refine J_iload (pc := 150) dX3_best_150 rfl ?_
        refine J_aload_n (pc := 152) dX3_best_152 rfl ?_
        refine J_iload (pc := 153) dX3_best_153 rfl ?_
        refine J_iconst (pc := 155) 3 dX3_best_155 (by decide) ?_
        refine J_callV (pc := 156) (n := 2) (b := 72) (vs := [.int v23, .int 3]) (ci := 2) (fun l => C_m_field l v23 3 M14) (lw_V q1418 q1420 qs83 q118 q1421) nmv_X3_field rfl (by omega) (by decide) rfl (fun h => sh_k1 h 52 rfl) rfl (Nat.le_of_ble_eq_true rfl) dX3_best_156 (fun v28 M16 => ?_)
        refine J_iadd (pc := 159) dX3_best_159 ?_
        refine J_lt (β := Int32) (v := (v21 + v28)) (L := fun _ => _) (S := fun v29 => [.int v29]) (fun v29 => ?_)
        refine J_istore (pc := 160) dX3_best_160 (by decide) ?_
        refine J_iload (pc := 162) dX3_best_162 rfl ?_
        refine J_aload_n (pc := 164) dX3_best_164 rfl ?_
        refine J_aload_n (pc := 165) dX3_best_165 rfl ?_
        refine J_aload_n (pc := 166) dX3_best_166 rfl ?_
        refine J_iload (pc := 167) dX3_best_167 rfl ?_
        refine J_iconst (pc := 169) 1 dX3_best_169 (by decide) ?_
        refine J_callV (pc := 170) (n := 2) (b := 72) (vs := [.int v23, .int 1]) (ci := 2) (fun l => C_m_field l v23 1 M16) (lw_V q1418 q1420 qs83 q118 q1421) nmv_X3_field rfl (by omega) (by decide) rfl (fun h => sh_k1 h 52 rfl) rfl (Nat.le_of_ble_eq_true rfl) dX3_best_170 (fun v30 M17 => ?_)
        refine J_aload_n (pc := 173) dX3_best_173 rfl ?_
        refine J_get (pc := 174) (c := 2) (.ref 73) rfl in_X3 0 (by decide) q1107 rfl (fun h => sh_k1 h 52 rfl) (fun h _ => fv_ref (Or.inr ⟨_, rfl⟩) (sh_r h 51 rfl)) dX3_best_174 ?_
        refine J_iload_n (pc := 177) dX3_best_177 rfl ?_
        refine J_ck (fun h3 => ?_)
        refine J_iald (pc := 178) (a := 73) (fun h => sh_a h 53 rfl h3) dX3_best_178 ?_
        refine J_callV (pc := 179) (n := 2) (b := 72) (vs := [.int v30, .int (M17.i 73 (ix c1))]) (ci := 2) (fun l => C_m_cheapestOf l v30 (M17.i 73 (ix c1)) M17) (lw_V q1517 q1519 qs96 q118 q1520) nmv_X3_cheapestOf rfl (by omega) (by decide) rfl (fun h => sh_k1 h 52 rfl) rfl (Nat.le_of_ble_eq_true rfl) dX3_best_179 (fun v31 M18 => ?_)
        refine J_aload_n (pc := 182) dX3_best_182 rfl ?_
        refine J_get (pc := 183) (c := 2) (.ref 73) rfl in_X3 0 (by decide) q1107 rfl (fun h => sh_k1 h 52 rfl) (fun h _ => fv_ref (Or.inr ⟨_, rfl⟩) (sh_r h 51 rfl)) dX3_best_183 ?_
        refine J_iload_n (pc := 186) dX3_best_186 rfl ?_
        refine J_ck (fun h4 => ?_)
        refine J_iald (pc := 187) (a := 73) (fun h => sh_a h 53 rfl h4) dX3_best_187 ?_
        refine J_callV (pc := 188) (n := 2) (b := 72) (vs := [.int v31, .int (M18.i 73 (ix c1))]) (ci := 2) (fun l => C_m_tollNow l v31 (M18.i 73 (ix c1)) M18) (lw_V q1447 q1449 qs85 q118 q1450) nmv_X3_tollNow rfl (by omega) (by decide) rfl (fun h => sh_k1 h 52 rfl) rfl (Nat.le_of_ble_eq_true rfl) dX3_best_188 (fun v32 M19 => ?_)
        refine J_iadd (pc := 191) dX3_best_191 ?_
        refine J_lt (β := Int32) (v := (v22 + v32)) (L := fun _ => _) (S := fun v33 => [.int v33]) (fun v33 => ?_)
        refine J_istore (pc := 192) dX3_best_192 (by decide) ?_
        exact J_sub (A := [some (.ref 72), some (.int c1), some (.int c2), some (.int c3), some (.int c4), some (.int c5), some (.int c6), some (.int v29), some (.int v33), some (.int v23)]) ⟨rfl, ⟨rfl, ⟨rfl, ⟨rfl, ⟨rfl, ⟨rfl, ⟨rfl, ⟨rfl, ⟨rfl, ⟨rfl, trivial⟩⟩⟩⟩⟩⟩⟩⟩⟩⟩ (hj3 v29 v33 M19)
      · refine J_goto (pc := 147) 194 dX3_best_147 rfl ?_
        exact J_sub (A := [some (.ref 72), some (.int c1), some (.int c2), some (.int c3), some (.int c4), some (.int c5), some (.int c6), some (.int v21), some (.int v22), some (.int v23)]) ⟨rfl, ⟨rfl, ⟨rfl, ⟨rfl, ⟨rfl, ⟨rfl, ⟨rfl, ⟨rfl, ⟨rfl, ⟨rfl, trivial⟩⟩⟩⟩⟩⟩⟩⟩⟩⟩ (hj3 v21 v22 M14)

def m_best_L101 (c1 : Int32) (c2 : Int32) (k254 : Int32 → Int32 → Int32 → PM → Option (Int32 × PM)) : Nat → Int32 → Int32 → Int32 → Int32 → PM → Option (Int32 × PM)
  | 0, _, _, _, _, _ => none
  | n + 1, v13, v14, v15, v16, M11 =>
    if c2 < v16 then (k254 v13 v14 v15 M11)
    else (jn (fun (v17 : Int32) (v18 : Int32) (v19 : Int32) (M12 : PM) =>
    lt (v16 + 1) fun v20 =>
    m_best_L101 c1 c2 k254 n v17 v18 v19 v20 M12) fun j2 =>
    if (v16 &&& (c2 ^^^ (-1))) = 0 then (m_best_L128 c1 c2 v13 v14 v15 v16 (fun (v34 : Int32) (v35 : Int32) (M20 : PM) =>
    ck (4 + c1) 44 <|
    if (M20.i 73 (ix (4 + c1))) < v35 then (j2 v13 v14 v15 M20)
    else (if v34 < v14 then (j2 v13 v14 v15 M20)
    else (jn (fun (M21 : PM) =>
    j2 v16 v34 v35 M21) fun j4 =>
    if v34 = v14 then (if v35 < v15 then (j4 M20)
    else (j2 v13 v14 v15 M20))
    else (j4 M20)))) FU 0 0 0 M11)
    else (j2 v13 v14 v15 M11))

set_option maxHeartbeats 4000000 in
theorem t_m_best_L101 (G : JG) (c1 : Int32) (c2 : Int32) (k254 : Int32 → Int32 → Int32 → PM → Option (Int32 × PM)) (hk254 : ∀ z3 z4 z5 Me, T_m_best G  Me 254 [some (.ref 72), none, none, some (.int z3), some (.int z4), some (.int z5), none, none, none, none] [] (k254 z3 z4 z5 Me)) : ∀ (n : Nat) (v13 : Int32) (v14 : Int32) (v15 : Int32) (v16 : Int32) (M11 : PM), T_m_best G  M11 101 [some (.ref 72), some (.int c1), some (.int c2), some (.int v13), some (.int v14), some (.int v15), some (.int v16), none, none, none] [] (m_best_L101 c1 c2 k254 n v13 v14 v15 v16 M11) := by
  intro n
  induction n with
  | zero =>
    intro v13 v14 v15 v16 M11
    exact J_none
  | succ n ih =>
    intro v13 v14 v15 v16 M11
    rw [m_best_L101]
    refine J_iload (pc := 101) dX3_best_101 rfl ?_
    refine J_iload_n (pc := 103) dX3_best_103 rfl ?_
    refine J_icmp_gt (pc := 104) 254 dX3_best_104 rfl (fun h => if_pos h) (fun h => if_neg h) (fun _ => ?_) (fun _ => ?_)
    · exact J_sub (A := [some (.ref 72), none, none, some (.int v13), some (.int v14), some (.int v15), none, none, none, none]) ⟨rfl, ⟨rfl, ⟨rfl, ⟨rfl, trivial⟩⟩⟩⟩ (hk254 v13 v14 v15 M11)
    · refine J_iload (pc := 107) dX3_best_107 rfl ?_
      refine J_iload_n (pc := 109) dX3_best_109 rfl ?_
      refine J_iconst (pc := 110) (-1) dX3_best_110 (by decide) ?_
      refine J_ixor (pc := 111) dX3_best_111 ?_
      refine J_iand (pc := 112) dX3_best_112 ?_
      refine J_jn (P := fun J => ∀ (v17 : Int32) (v18 : Int32) (v19 : Int32) (M12 : PM), T_m_best G  M12 248 [some (.ref 72), some (.int c1), some (.int c2), some (.int v17), some (.int v18), some (.int v19), some (.int v16), none, none, none] [] (J v17 v18 v19 M12)) (fun v17 v18 v19 M12 => ?_) (fun j2 hj2 => ?_)
      · refine J_iincL (pc := 248) (n := 1) (by decide) dX3_best_248 rfl (by decide) (fun v20 => ?_)
        refine J_goto (pc := 251) 101 dX3_best_251 rfl ?_
        exact J_sub (A := [some (.ref 72), some (.int c1), some (.int c2), some (.int v17), some (.int v18), some (.int v19), some (.int v20), none, none, none]) ⟨rfl, ⟨rfl, ⟨rfl, ⟨rfl, ⟨rfl, ⟨rfl, ⟨rfl, trivial⟩⟩⟩⟩⟩⟩⟩ (ih v17 v18 v19 v20 M12)
      refine J_if_eq (pc := 113) 119 dX3_best_113 rfl (fun h => if_pos h) (fun h => if_neg h) (fun _ => ?_) (fun _ => ?_)
      · refine J_iconst (pc := 119) 0 dX3_best_119 (by decide) ?_
        refine J_istore (pc := 120) dX3_best_120 (by decide) ?_
        refine J_iconst (pc := 122) 0 dX3_best_122 (by decide) ?_
        refine J_istore (pc := 123) dX3_best_123 (by decide) ?_
        refine J_iconst (pc := 125) 0 dX3_best_125 (by decide) ?_
        refine J_istore (pc := 126) dX3_best_126 (by decide) ?_
        refine J_sub (A := [some (.ref 72), some (.int c1), some (.int c2), some (.int v13), some (.int v14), some (.int v15), some (.int v16), some (.int 0), some (.int 0), some (.int 0)]) ⟨rfl, ⟨rfl, ⟨rfl, ⟨rfl, ⟨rfl, ⟨rfl, ⟨rfl, ⟨rfl, ⟨rfl, ⟨rfl, trivial⟩⟩⟩⟩⟩⟩⟩⟩⟩⟩ (t_m_best_L128 G c1 c2 v13 v14 v15 v16 _ ?_ FU 0 0 0 M11)
        · intro v34 v35 M20
          refine J_iload (pc := 200) dX3_best_200 rfl ?_
          refine J_aload_n (pc := 202) dX3_best_202 rfl ?_
          refine J_get (pc := 203) (c := 2) (.ref 73) rfl in_X3 0 (by decide) q1107 rfl (fun h => sh_k1 h 52 rfl) (fun h _ => fv_ref (Or.inr ⟨_, rfl⟩) (sh_r h 51 rfl)) dX3_best_203 ?_
          refine J_iconst (pc := 206) 4 dX3_best_206 (by decide) ?_
          refine J_iload_n (pc := 207) dX3_best_207 rfl ?_
          refine J_iadd (pc := 208) dX3_best_208 ?_
          refine J_ck (fun h5 => ?_)
          refine J_iald (pc := 209) (a := 73) (fun h => sh_a h 53 rfl h5) dX3_best_209 ?_
          refine J_icmp_gt (pc := 210) 248 dX3_best_210 rfl (fun h => if_pos h) (fun h => if_neg h) (fun _ => ?_) (fun _ => ?_)
          · exact J_sub (A := [some (.ref 72), some (.int c1), some (.int c2), some (.int v13), some (.int v14), some (.int v15), some (.int v16), none, none, none]) ⟨rfl, ⟨rfl, ⟨rfl, ⟨rfl, ⟨rfl, ⟨rfl, ⟨rfl, trivial⟩⟩⟩⟩⟩⟩⟩ (hj2 v13 v14 v15 M20)
          · refine J_iload (pc := 213) dX3_best_213 rfl ?_
            refine J_iload (pc := 215) dX3_best_215 rfl ?_
            refine J_icmp_lt (pc := 217) 248 dX3_best_217 rfl (fun h => if_pos h) (fun h => if_neg h) (fun _ => ?_) (fun _ => ?_)
            · exact J_sub (A := [some (.ref 72), some (.int c1), some (.int c2), some (.int v13), some (.int v14), some (.int v15), some (.int v16), none, none, none]) ⟨rfl, ⟨rfl, ⟨rfl, ⟨rfl, ⟨rfl, ⟨rfl, ⟨rfl, trivial⟩⟩⟩⟩⟩⟩⟩ (hj2 v13 v14 v15 M20)
            · refine J_iload (pc := 220) dX3_best_220 rfl ?_
              refine J_iload (pc := 222) dX3_best_222 rfl ?_
              refine J_jn (P := fun J => ∀ (M21 : PM), T_m_best G  M21 237 [some (.ref 72), some (.int c1), some (.int c2), none, none, none, some (.int v16), some (.int v34), some (.int v35), none] [] (J M21)) (fun M21 => ?_) (fun j4 hj4 => ?_)
              · refine J_iload (pc := 237) dX3_best_237 rfl ?_
                refine J_istore_n (pc := 239) dX3_best_239 (by decide) ?_
                refine J_iload (pc := 240) dX3_best_240 rfl ?_
                refine J_istore (pc := 242) dX3_best_242 (by decide) ?_
                refine J_iload (pc := 244) dX3_best_244 rfl ?_
                refine J_istore (pc := 246) dX3_best_246 (by decide) ?_
                exact J_sub (A := [some (.ref 72), some (.int c1), some (.int c2), some (.int v16), some (.int v34), some (.int v35), some (.int v16), none, none, none]) ⟨rfl, ⟨rfl, ⟨rfl, ⟨rfl, ⟨rfl, ⟨rfl, ⟨rfl, trivial⟩⟩⟩⟩⟩⟩⟩ (hj2 v16 v34 v35 M21)
              refine J_icmp_ne (pc := 224) 237 dX3_best_224 rfl (fun h => if_neg h) (fun h => if_pos h) (fun _ => ?_) (fun _ => ?_)
              · exact J_sub (A := [some (.ref 72), some (.int c1), some (.int c2), none, none, none, some (.int v16), some (.int v34), some (.int v35), none]) ⟨rfl, ⟨rfl, ⟨rfl, ⟨rfl, ⟨rfl, ⟨rfl, trivial⟩⟩⟩⟩⟩⟩ (hj4 M20)
              · refine J_iload (pc := 227) dX3_best_227 rfl ?_
                refine J_iload (pc := 229) dX3_best_229 rfl ?_
                refine J_icmp_lt (pc := 231) 237 dX3_best_231 rfl (fun h => if_pos h) (fun h => if_neg h) (fun _ => ?_) (fun _ => ?_)
                · exact J_sub (A := [some (.ref 72), some (.int c1), some (.int c2), none, none, none, some (.int v16), some (.int v34), some (.int v35), none]) ⟨rfl, ⟨rfl, ⟨rfl, ⟨rfl, ⟨rfl, ⟨rfl, trivial⟩⟩⟩⟩⟩⟩ (hj4 M20)
                · refine J_goto (pc := 234) 248 dX3_best_234 rfl ?_
                  exact J_sub (A := [some (.ref 72), some (.int c1), some (.int c2), some (.int v13), some (.int v14), some (.int v15), some (.int v16), none, none, none]) ⟨rfl, ⟨rfl, ⟨rfl, ⟨rfl, ⟨rfl, ⟨rfl, ⟨rfl, trivial⟩⟩⟩⟩⟩⟩⟩ (hj2 v13 v14 v15 M20)
      · refine J_goto (pc := 116) 248 dX3_best_116 rfl ?_
        exact J_sub (A := [some (.ref 72), some (.int c1), some (.int c2), some (.int v13), some (.int v14), some (.int v15), some (.int v16), none, none, none]) ⟨rfl, ⟨rfl, ⟨rfl, ⟨rfl, ⟨rfl, ⟨rfl, ⟨rfl, trivial⟩⟩⟩⟩⟩⟩⟩ (hj2 v13 v14 v15 M11)

def m_best (p1 : Int32) (M : PM) : Option (Int32 × PM) :=
    lt (M.si 72 13 0) fun M1 =>
    bd (m_isOne p1 M1) fun v1 M2 =>
    if v1 = 0 then (some ((-1), M2))
    else (m_best_L19 p1 (fun (v12 : Int32) (M10 : PM) =>
    m_best_L101 p1 v12 (fun (v36 : Int32) (v37 : Int32) (v38 : Int32) (M22 : PM) =>
    lt (M22.si 72 12 0) fun M23 =>
    bd (m_tell (Int32.toInt64 v36) M23) fun _ M24 =>
    bd (m_tell (Int32.toInt64 v38) M24) fun _ M25 =>
    some (v37, M25)) FU 0 0 0 1 M10) FU 0 0 M2)

set_option maxHeartbeats 4000000 in
theorem t_m_best (G : JG) (p1 : Int32) (M : PM) : T_m_best G  M 0 (ent [.ref 72, .int p1] 10) [] (m_best p1 M) := by
  unfold m_best
  refine J_aload_n (pc := 0) dX3_best_0 rfl ?_
  refine J_iconst (pc := 1) 0 dX3_best_1 (by decide) ?_
  refine J_put (pc := 2) (a := 72) (v := .int 0) (M' := M.si 72 13 0) (c := 2) rfl in_X3 tyX3_ok fnX3 13 (by decide) q1120 rfl (Or.inl rfl) (fun h => sh_k1 h 52 rfl) (fun _ => rfl) (fun _ => rfl) ⟨⟨rfl, rfl⟩, rfl⟩ (fun _ hb => up2_same hb) (fun _ _ => rfl) (fun _ _ => rfl) (put_i (fun _ _ _ => rfl)) (fun h => Sh_si h) dX3_best_2 ?_
  refine J_ltM (fun M1 => ?_)
  refine J_aload_n (pc := 5) dX3_best_5 rfl ?_
  refine J_iload_n (pc := 6) dX3_best_6 rfl ?_
  refine J_callV (pc := 7) (n := 1) (b := 72) (vs := [.int p1]) (ci := 2) (fun l => C_m_isOne l p1 M1) (lw_V q1410 q1412 qs81 q118 q1413) nmv_X3_isOne rfl (by omega) (by decide) rfl (fun h => sh_k1 h 52 rfl) rfl (Nat.le_of_ble_eq_true rfl) dX3_best_7 (fun v1 M2 => ?_)
  refine J_if_ne (pc := 10) 15 dX3_best_10 rfl (fun h => if_neg h) (fun h => if_pos h) (fun _ => ?_) (fun _ => ?_)
  · refine J_iconst (pc := 15) 0 dX3_best_15 (by decide) ?_
    refine J_istore_n (pc := 16) dX3_best_16 (by decide) ?_
    refine J_iconst (pc := 17) 0 dX3_best_17 (by decide) ?_
    refine J_istore_n (pc := 18) dX3_best_18 (by decide) ?_
    refine J_sub (A := [some (.ref 72), some (.int p1), some (.int 0), some (.int 0), none, none, none, none, none, none]) ⟨rfl, ⟨rfl, ⟨rfl, ⟨rfl, trivial⟩⟩⟩⟩ (t_m_best_L19 G p1 _ ?_ FU 0 0 M2)
    · intro v12 M10
      refine J_iconst (pc := 90) 0 dX3_best_90 (by decide) ?_
      refine J_istore_n (pc := 91) dX3_best_91 (by decide) ?_
      refine J_iconst (pc := 92) 0 dX3_best_92 (by decide) ?_
      refine J_istore (pc := 93) dX3_best_93 (by decide) ?_
      refine J_iconst (pc := 95) 0 dX3_best_95 (by decide) ?_
      refine J_istore (pc := 96) dX3_best_96 (by decide) ?_
      refine J_iconst (pc := 98) 1 dX3_best_98 (by decide) ?_
      refine J_istore (pc := 99) dX3_best_99 (by decide) ?_
      refine J_sub (A := [some (.ref 72), some (.int p1), some (.int v12), some (.int 0), some (.int 0), some (.int 0), some (.int 1), none, none, none]) ⟨rfl, ⟨rfl, ⟨rfl, ⟨rfl, ⟨rfl, ⟨rfl, ⟨rfl, trivial⟩⟩⟩⟩⟩⟩⟩ (t_m_best_L101 G p1 v12 _ ?_ FU 0 0 0 1 M10)
      · intro v36 v37 v38 M22
        refine J_aload_n (pc := 254) dX3_best_254 rfl ?_
        refine J_iconst (pc := 255) 0 dX3_best_255 (by decide) ?_
        refine J_put (pc := 256) (a := 72) (v := .int 0) (M' := M22.si 72 12 0) (c := 2) rfl in_X3 tyX3_ok fnX3 12 (by decide) q1119 rfl (Or.inl rfl) (fun h => sh_k1 h 52 rfl) (fun _ => rfl) (fun _ => rfl) ⟨⟨rfl, rfl⟩, rfl⟩ (fun _ hb => up2_same hb) (fun _ _ => rfl) (fun _ _ => rfl) (put_i (fun _ _ _ => rfl)) (fun h => Sh_si h) dX3_best_256 ?_
        refine J_ltM (fun M23 => ?_)
        refine J_aload_n (pc := 259) dX3_best_259 rfl ?_
        refine J_iload_n (pc := 260) dX3_best_260 rfl ?_
        refine J_i2l (pc := 261) dX3_best_261 ?_
        refine J_callV (pc := 262) (n := 1) (b := 72) (vs := [.long (Int32.toInt64 v36)]) (ci := 2) (fun l => C_m_tell l (Int32.toInt64 v36) M23) (lw_V q1455 q1457 qs87 q118 q1458) nmv_X3_tell rfl (by omega) (by decide) rfl (fun h => sh_k1 h 52 rfl) rfl (Nat.le_of_ble_eq_true rfl) dX3_best_262 (fun _ M24 => ?_)
        refine J_aload_n (pc := 265) dX3_best_265 rfl ?_
        refine J_iload (pc := 266) dX3_best_266 rfl ?_
        refine J_i2l (pc := 268) dX3_best_268 ?_
        refine J_callV (pc := 269) (n := 1) (b := 72) (vs := [.long (Int32.toInt64 v38)]) (ci := 2) (fun l => C_m_tell l (Int32.toInt64 v38) M24) (lw_V q1455 q1457 qs87 q118 q1458) nmv_X3_tell rfl (by omega) (by decide) rfl (fun h => sh_k1 h 52 rfl) rfl (Nat.le_of_ble_eq_true rfl) dX3_best_269 (fun _ M25 => ?_)
        refine J_iload (pc := 272) dX3_best_272 rfl ?_
        exact J_iret (pc := 274) dX3_best_274
  · refine J_iconst (pc := 13) (-1) dX3_best_13 (by decide) ?_
    exact J_iret (pc := 14) dX3_best_14

theorem C_m_best (l : Launch) (p1 : Int32) (M : PM) : Ctr l Sh yX3_best cX3_best 10 (some .int) 144 rvI [.ref 72, .int p1] M (m_best p1 M) := Ctr.of (by decide +kernel) (Nat.le_of_ble_eq_true rfl) (fun G => t_m_best G p1 M)

