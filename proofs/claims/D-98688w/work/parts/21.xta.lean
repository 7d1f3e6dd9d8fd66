set_option maxRecDepth 100000
abbrev T_x_word (G : JG) (M : PM) (pc : Nat) (L : List (Option Value)) (S : List Value) (o : Option (Option Int32 × PM)) : Prop := JJ G cX1_word yX1_word 3 8 (some .int) Sh (finX G Sh rvI) M pc L S o
def x_word (p1 : Int32) (p2 : Int32) (M : PM) : Option (Option Int32 × PM) :=
    bd (x_isWord p1 M) fun v1 M1 =>
    jn (fun (M2 : PM) =>
    some (none, M2.nw 99 0 6)) fun j1 =>
    if v1 = 0 then (j1 M1)
    else (bd (x_in (Int32.toInt64 p2) 0 8 M1) fun v2 M3 =>
    if v2 = 0 then (j1 M3)
    else (if p2 = 0 then (ck p1 10 <|
    some (some (M3.i 32 (ix p1)), M3))
    else if p2 = 1 then (bd (x_vowelsOf p1 M3) fun v3 M4 =>
    some (some v3, M4))
    else if p2 = 2 then (ck p1 10 <|
    some (some (M3.i 33 (ix p1)), M3))
    else if p2 = 3 then (ck p1 10 <|
    some (some (M3.i 34 (ix p1)), M3))
    else (bd (x_vowelIn p1 (p2 - 4) M3) fun v4 M5 =>
    some (some v4, M5))))

set_option maxHeartbeats 4000000 in
theorem t_x_word (G : JG) (hl9 : (gl G).stackTraces = false) (p1 : Int32) (p2 : Int32) (M : PM) : T_x_word G  M 0 (ent [.ref 20, .int p1, .int p2] 3) [] (x_word p1 p2 M) := by
  unfold x_word
  refine J_aload_n (pc := 0) dX1_word_0 rfl ?_
  refine J_iload_n (pc := 1) dX1_word_1 rfl ?_
  refine J_callV (pc := 2) (n := 1) (b := 20) (vs := [.int p1]) (ci := 0) (fun l => C_x_isWord l p1 M) (lw_V q674 q676 qs16 q116 q677) nmv_X1_isWord rfl (by omega) (by decide) rfl (fun h => sh_k1 h 0 rfl) rfl (Nat.le_of_ble_eq_true rfl) dX1_word_2 (fun v1 M1 => ?_)
  refine J_jn (P := fun J => ∀ (M2 : PM), T_x_word G  M2 20 [none, none, none] [] (J M2)) (fun M2 => ?_) (fun j1 hj1 => ?_)
  · exact J_throw (pc := 20) hl9 rfl (by omega) (fun h => Sh_nw h) dX1_word_20 dX1_word_23 dX1_word_24 dX1_word_27
  refine J_if_eq (pc := 5) 20 dX1_word_5 rfl (fun h => if_pos h) (fun h => if_neg h) (fun _ => ?_) (fun _ => ?_)
  · exact J_sub (A := [none, none, none]) trivial (hj1 M1)
  · refine J_iload_n (pc := 8) dX1_word_8 rfl ?_
    refine J_i2l (pc := 9) dX1_word_9 ?_
    refine J_lconst (pc := 10) 0 dX1_word_10 (by decide) ?_
    refine J_ldc2 (pc := 11) 8 q1010 dX1_word_11 ?_
    refine J_callS (pc := 14) (n := 3) (vs := [.long (Int32.toInt64 p2), .long 0, .long 8]) (fun l => C_x_in l (Int32.toInt64 p2) 0 8 M1) (lw_S q398 q399 q116 q400) nmh_X1_in rfl (by omega) (by decide) rfl (Nat.le_of_ble_eq_true rfl) dX1_word_14 (fun v2 M3 => ?_)
    refine J_if_ne (pc := 17) 28 dX1_word_17 rfl (fun h => if_neg h) (fun h => if_pos h) (fun _ => ?_) (fun _ => ?_)
    · refine J_iload_n (pc := 28) dX1_word_28 rfl ?_
      refine J_ite (fun h_29_0 => ?_) (fun h_29_0 => ?_)
      · refine J_tableIn (pc := 29) 60 dX1_word_29 (by rw [h_29_0]; decide) (by rw [h_29_0]; decide) (by rw [h_29_0]; rfl) rfl ?_
        refine J_aload_n (pc := 60) dX1_word_60 rfl ?_
        refine J_get (pc := 61) (c := 0) (.ref 32) rfl in_X1 3 (by decide) q180 rfl (fun h => sh_k1 h 0 rfl) (fun h _ => fv_ref (Or.inr ⟨_, rfl⟩) (sh_r h 11 rfl)) dX1_word_61 ?_
        refine J_iload_n (pc := 64) dX1_word_64 rfl ?_
        refine J_ck (fun h1 => ?_)
        refine J_iald (pc := 65) (a := 32) (fun h => sh_a h 12 rfl h1) dX1_word_65 ?_
        exact JX_iret (pc := 66) dX1_word_66
      · refine J_ite (fun h_29_1 => ?_) (fun h_29_1 => ?_)
        · refine J_tableIn (pc := 29) 67 dX1_word_29 (by rw [h_29_1]; decide) (by rw [h_29_1]; decide) (by rw [h_29_1]; rfl) rfl ?_
          refine J_aload_n (pc := 67) dX1_word_67 rfl ?_
          refine J_iload_n (pc := 68) dX1_word_68 rfl ?_
          refine J_callV (pc := 69) (n := 1) (b := 20) (vs := [.int p1]) (ci := 0) (fun l => C_x_vowelsOf l p1 M3) (lw_V q804 q806 qs35 q116 q807) nmv_X1_vowelsOf rfl (by omega) (by decide) rfl (fun h => sh_k1 h 0 rfl) rfl (Nat.le_of_ble_eq_true rfl) dX1_word_69 (fun v3 M4 => ?_)
          exact JX_iret (pc := 72) dX1_word_72
        · refine J_ite (fun h_29_2 => ?_) (fun h_29_2 => ?_)
          · refine J_tableIn (pc := 29) 73 dX1_word_29 (by rw [h_29_2]; decide) (by rw [h_29_2]; decide) (by rw [h_29_2]; rfl) rfl ?_
            refine J_aload_n (pc := 73) dX1_word_73 rfl ?_
            refine J_get (pc := 74) (c := 0) (.ref 33) rfl in_X1 4 (by decide) q181 rfl (fun h => sh_k1 h 0 rfl) (fun h _ => fv_ref (Or.inr ⟨_, rfl⟩) (sh_r h 12 rfl)) dX1_word_74 ?_
            refine J_iload_n (pc := 77) dX1_word_77 rfl ?_
            refine J_ck (fun h2 => ?_)
            refine J_iald (pc := 78) (a := 33) (fun h => sh_a h 13 rfl h2) dX1_word_78 ?_
            exact JX_iret (pc := 79) dX1_word_79
          · refine J_ite (fun h_29_3 => ?_) (fun h_29_3 => ?_)
            · refine J_tableIn (pc := 29) 80 dX1_word_29 (by rw [h_29_3]; decide) (by rw [h_29_3]; decide) (by rw [h_29_3]; rfl) rfl ?_
              refine J_aload_n (pc := 80) dX1_word_80 rfl ?_
              refine J_get (pc := 81) (c := 0) (.ref 34) rfl in_X1 5 (by decide) q182 rfl (fun h => sh_k1 h 0 rfl) (fun h _ => fv_ref (Or.inr ⟨_, rfl⟩) (sh_r h 13 rfl)) dX1_word_81 ?_
              refine J_iload_n (pc := 84) dX1_word_84 rfl ?_
              refine J_ck (fun h3 => ?_)
              refine J_iald (pc := 85) (a := 34) (fun h => sh_a h 14 rfl h3) dX1_word_85 ?_
              exact JX_iret (pc := 86) dX1_word_86
            · refine J_tableD (pc := 29) 87 dX1_word_29 rfl (by decide) (by decide) [0, 1, 2, 3] (by decide +kernel) (by simp only [List.mem_cons, List.not_mem_nil, or_false, forall_eq_or_imp, forall_eq]; exact ⟨fun q => h_29_0 (i32_of q), fun q => h_29_1 (i32_of q), fun q => h_29_2 (i32_of q), fun q => h_29_3 (i32_of q)⟩) ?_
              refine J_aload_n (pc := 87) dX1_word_87 rfl ?_
              refine J_iload_n (pc := 88) dX1_word_88 rfl ?_
              refine J_iload_n (pc := 89) dX1_word_89 rfl ?_
              refine J_iconst (pc := 90) 4 dX1_word_90 (by decide) ?_
              refine J_isub (pc := 91) dX1_word_91 ?_
              refine J_callV (pc := 92) (n := 2) (b := 20) (vs := [.int p1, .int (p2 - 4)]) (ci := 0) (fun l => C_x_vowelIn l p1 (p2 - 4) M3) (lw_V q956 q958 qs54 q116 q959) nmv_X1_vowelIn rfl (by omega) (by decide) rfl (fun h => sh_k1 h 0 rfl) rfl (Nat.le_of_ble_eq_true rfl) dX1_word_92 (fun v4 M5 => ?_)
              exact JX_iret (pc := 95) dX1_word_95
    · exact J_sub (A := [none, none, none]) trivial (hj1 M3)

theorem C_x_word (l : Launch) (hl9 : l.stackTraces = false) (p1 : Int32) (p2 : Int32) (M : PM) : CtrX l Sh yX1_word cX1_word 3 (some .int) 8 rvI [.ref 20, .int p1, .int p2] M (x_word p1 p2 M) := CtrX.of hl9 (by decide +kernel) (Nat.le_of_ble_eq_true rfl) (fun G hl9 => t_x_word G hl9 p1 p2 M)

abbrev T_x_traveller (G : JG) (M : PM) (pc : Nat) (L : List (Option Value)) (S : List Value) (o : Option (Option Int32 × PM)) : Prop := JJ G cX1_traveller yX1_traveller 5 7 (some .int) Sh (finX G Sh rvI) M pc L S o
def x_traveller_L93 (c1 : Int32) : Nat → Int32 → Int32 → PM → Option (Option Int32 × PM)
  | 0, _, _, _ => none
  | n + 1, v3, v4, M3 =>
    if (M3.i 20 13) ≤ v4 then (some (some v3, M3))
    else (ck v4 8 <|
    jn (fun (v5 : Int32) (M4 : PM) =>
    lt (v3 + v5) fun v6 =>
    lt (v4 + 1) fun v7 =>
    x_traveller_L93 c1 n v6 v7 M4) fun j1 =>
    if (M3.i 35 (ix v4)) = c1 then (bd (x_has (M3.i 21 5) v4 M3) fun v8 M5 =>
    if v8 = 0 then (j1 0 M5)
    else (ck v4 8 <|
    j1 (M5.i 38 (ix v4)) M5))
    else (j1 0 M3))

set_option maxHeartbeats 4000000 in
theorem t_x_traveller_L93 (G : JG) (c1 : Int32) : ∀ (n : Nat) (v3 : Int32) (v4 : Int32) (M3 : PM), T_x_traveller G  M3 93 [some (.ref 20), some (.int c1), none, some (.int v3), some (.int v4)] [] (x_traveller_L93 c1 n v3 v4 M3) := by
  intro n
  induction n with
  | zero =>
    intro v3 v4 M3
    exact J_none
  | succ n ih =>
    intro v3 v4 M3
    rw [x_traveller_L93]
    refine J_iload (pc := 93) dX1_traveller_93 rfl ?_
    refine J_aload_n (pc := 95) dX1_traveller_95 rfl ?_
    refine J_get (pc := 96) (c := 0) (.int (M3.i 20 13)) rfl in_X1 13 (by decide) q190 rfl (fun h => sh_k1 h 0 rfl) (fun _ _ => rfl) dX1_traveller_96 ?_
    refine J_icmp_ge (pc := 99) 148 dX1_traveller_99 rfl (fun h => if_pos h) (fun h => if_neg h) (fun _ => ?_) (fun _ => ?_)
    · refine J_iload_n (pc := 148) dX1_traveller_148 rfl ?_
      exact JX_iret (pc := 149) dX1_traveller_149
    · refine J_iload_n (pc := 102) dX1_traveller_102 rfl ?_
      refine J_aload_n (pc := 103) dX1_traveller_103 rfl ?_
      refine J_get (pc := 104) (c := 0) (.ref 35) rfl in_X1 6 (by decide) q183 rfl (fun h => sh_k1 h 0 rfl) (fun h _ => fv_ref (Or.inr ⟨_, rfl⟩) (sh_r h 14 rfl)) dX1_traveller_104 ?_
      refine J_iload (pc := 107) dX1_traveller_107 rfl ?_
      refine J_ck (fun h4 => ?_)
      refine J_iald (pc := 109) (a := 35) (fun h => sh_a h 15 rfl h4) dX1_traveller_109 ?_
      refine J_iload_n (pc := 110) dX1_traveller_110 rfl ?_
      refine J_jn (P := fun J => ∀ (v5 : Int32) (M4 : PM), T_x_traveller G  M4 140 [some (.ref 20), some (.int c1), none, none, some (.int v4)] [.int v5, .int v3] (J v5 M4)) (fun v5 M4 => ?_) (fun j1 hj1 => ?_)
      · refine J_iadd (pc := 140) dX1_traveller_140 ?_
        refine J_lt (β := Int32) (v := (v3 + v5)) (L := fun _ => _) (S := fun v6 => [.int v6]) (fun v6 => ?_)
        refine J_istore_n (pc := 141) dX1_traveller_141 (by decide) ?_
        refine J_iincL (pc := 142) (n := 1) (by decide) dX1_traveller_142 rfl (by decide) (fun v7 => ?_)
        refine J_goto (pc := 145) 93 dX1_traveller_145 rfl ?_
        exact J_sub (A := [some (.ref 20), some (.int c1), none, some (.int v6), some (.int v7)]) ⟨rfl, ⟨rfl, ⟨rfl, ⟨rfl, trivial⟩⟩⟩⟩ (ih v6 v7 M4)
      refine J_icmp_ne (pc := 111) 139 dX1_traveller_111 rfl (fun h => if_neg h) (fun h => if_pos h) (fun _ => ?_) (fun _ => ?_)
      · refine J_iconst (pc := 139) 0 dX1_traveller_139 (by decide) ?_
        exact J_sub (A := [some (.ref 20), some (.int c1), none, none, some (.int v4)]) ⟨rfl, ⟨rfl, ⟨rfl, trivial⟩⟩⟩ (hj1 0 M3)
      · refine J_aload_n (pc := 114) dX1_traveller_114 rfl ?_
        refine J_get (pc := 115) (c := 0) (.ref 21) rfl in_X1 0 (by decide) q177 rfl (fun h => sh_k1 h 0 rfl) (fun h _ => fv_ref (Or.inl ⟨_, rfl⟩) (sh_r h 4 rfl)) dX1_traveller_115 ?_
        refine J_getN (host := "TollOnVowels") (pc := 118) (c := 1) (.int (M3.i 21 5)) rfl in_X2 5 (by decide) (by decide +kernel) rfl (fun h => sh_k1 h 1 rfl) (fun _ _ => rfl) dX1_traveller_118 ?_
        refine J_iload (pc := 121) dX1_traveller_121 rfl ?_
        refine J_callS (pc := 123) (n := 2) (vs := [.int (M3.i 21 5), .int v4]) (fun l => C_x_has l (M3.i 21 5) v4 M3) (lw_S q757 q758 q116 q759) nmh_X1_has rfl (by omega) (by decide) rfl (Nat.le_of_ble_eq_true rfl) dX1_traveller_123 (fun v8 M5 => ?_)
        refine J_if_eq (pc := 126) 139 dX1_traveller_126 rfl (fun h => if_pos h) (fun h => if_neg h) (fun _ => ?_) (fun _ => ?_)
        · refine J_iconst (pc := 139) 0 dX1_traveller_139 (by decide) ?_
          exact J_sub (A := [some (.ref 20), some (.int c1), none, none, some (.int v4)]) ⟨rfl, ⟨rfl, ⟨rfl, trivial⟩⟩⟩ (hj1 0 M5)
        · refine J_aload_n (pc := 129) dX1_traveller_129 rfl ?_
          refine J_get (pc := 130) (c := 0) (.ref 38) rfl in_X1 9 (by decide) q186 rfl (fun h => sh_k1 h 0 rfl) (fun h _ => fv_ref (Or.inr ⟨_, rfl⟩) (sh_r h 17 rfl)) dX1_traveller_130 ?_
          refine J_iload (pc := 133) dX1_traveller_133 rfl ?_
          refine J_ck (fun h5 => ?_)
          refine J_iald (pc := 135) (a := 38) (fun h => sh_a h 18 rfl h5) dX1_traveller_135 ?_
          refine J_goto (pc := 136) 140 dX1_traveller_136 rfl ?_
          exact J_sub (A := [some (.ref 20), some (.int c1), none, none, some (.int v4)]) ⟨rfl, ⟨rfl, ⟨rfl, trivial⟩⟩⟩ (hj1 (M5.i 38 (ix v4)) M5)

def x_traveller (p1 : Int32) (p2 : Int32) (M : PM) : Option (Option Int32 × PM) :=
    bd (x_isTraveller p1 M) fun v1 M1 =>
    if v1 = 0 then (some (none, M1.nw 99 0 6))
    else (if p2 = 0 then (ck p1 4 <|
    some (some (M1.i 22 (ix p1)), M1))
    else if p2 = 1 then (ck p1 4 <|
    some (some (M1.i 23 (ix p1)), M1))
    else if p2 = 2 then (ck p1 4 <|
    some (some (M1.i 24 (ix p1)), M1))
    else if p2 = 3 then (bd (x_errandsOf p1 M1) fun v2 M2 =>
    some (some v2, M2))
    else if p2 = 4 then (x_traveller_L93 p1 FU 0 0 M1)
    else (some (none, M1.nw 99 0 6)))

set_option maxHeartbeats 4000000 in
theorem t_x_traveller (G : JG) (hl9 : (gl G).stackTraces = false) (p1 : Int32) (p2 : Int32) (M : PM) : T_x_traveller G  M 0 (ent [.ref 20, .int p1, .int p2] 5) [] (x_traveller p1 p2 M) := by
  unfold x_traveller
  refine J_aload_n (pc := 0) dX1_traveller_0 rfl ?_
  refine J_iload_n (pc := 1) dX1_traveller_1 rfl ?_
  refine J_callV (pc := 2) (n := 1) (b := 20) (vs := [.int p1]) (ci := 0) (fun l => C_x_isTraveller l p1 M) (lw_V q720 q722 qs22 q116 q723) nmv_X1_isTraveller rfl (by omega) (by decide) rfl (fun h => sh_k1 h 0 rfl) rfl (Nat.le_of_ble_eq_true rfl) dX1_traveller_2 (fun v1 M1 => ?_)
  refine J_if_ne (pc := 5) 16 dX1_traveller_5 rfl (fun h => if_neg h) (fun h => if_pos h) (fun _ => ?_) (fun _ => ?_)
  · refine J_iload_n (pc := 16) dX1_traveller_16 rfl ?_
    refine J_ite (fun h_17_0 => ?_) (fun h_17_0 => ?_)
    · refine J_tableIn (pc := 17) 52 dX1_traveller_17 (by rw [h_17_0]; decide) (by rw [h_17_0]; decide) (by rw [h_17_0]; rfl) rfl ?_
      refine J_aload_n (pc := 52) dX1_traveller_52 rfl ?_
      refine J_get (pc := 53) (c := 0) (.ref 21) rfl in_X1 0 (by decide) q177 rfl (fun h => sh_k1 h 0 rfl) (fun h _ => fv_ref (Or.inl ⟨_, rfl⟩) (sh_r h 4 rfl)) dX1_traveller_53 ?_
      refine J_getN (host := "TollOnVowels") (pc := 56) (c := 1) (.ref 22) rfl in_X2 0 (by decide) (by decide +kernel) rfl (fun h => sh_k1 h 1 rfl) (fun h _ => fv_ref (Or.inr ⟨_, rfl⟩) (sh_r h 0 rfl)) dX1_traveller_56 ?_
      refine J_iload_n (pc := 59) dX1_traveller_59 rfl ?_
      refine J_ck (fun h1 => ?_)
      refine J_iald (pc := 60) (a := 22) (fun h => sh_a h 2 rfl h1) dX1_traveller_60 ?_
      exact JX_iret (pc := 61) dX1_traveller_61
    · refine J_ite (fun h_17_1 => ?_) (fun h_17_1 => ?_)
      · refine J_tableIn (pc := 17) 62 dX1_traveller_17 (by rw [h_17_1]; decide) (by rw [h_17_1]; decide) (by rw [h_17_1]; rfl) rfl ?_
        refine J_aload_n (pc := 62) dX1_traveller_62 rfl ?_
        refine J_get (pc := 63) (c := 0) (.ref 21) rfl in_X1 0 (by decide) q177 rfl (fun h => sh_k1 h 0 rfl) (fun h _ => fv_ref (Or.inl ⟨_, rfl⟩) (sh_r h 4 rfl)) dX1_traveller_63 ?_
        refine J_getN (host := "TollOnVowels") (pc := 66) (c := 1) (.ref 23) rfl in_X2 1 (by decide) (by decide +kernel) rfl (fun h => sh_k1 h 1 rfl) (fun h _ => fv_ref (Or.inr ⟨_, rfl⟩) (sh_r h 1 rfl)) dX1_traveller_66 ?_
        refine J_iload_n (pc := 69) dX1_traveller_69 rfl ?_
        refine J_ck (fun h2 => ?_)
        refine J_iald (pc := 70) (a := 23) (fun h => sh_a h 3 rfl h2) dX1_traveller_70 ?_
        exact JX_iret (pc := 71) dX1_traveller_71
      · refine J_ite (fun h_17_2 => ?_) (fun h_17_2 => ?_)
        · refine J_tableIn (pc := 17) 72 dX1_traveller_17 (by rw [h_17_2]; decide) (by rw [h_17_2]; decide) (by rw [h_17_2]; rfl) rfl ?_
          refine J_aload_n (pc := 72) dX1_traveller_72 rfl ?_
          refine J_get (pc := 73) (c := 0) (.ref 21) rfl in_X1 0 (by decide) q177 rfl (fun h => sh_k1 h 0 rfl) (fun h _ => fv_ref (Or.inl ⟨_, rfl⟩) (sh_r h 4 rfl)) dX1_traveller_73 ?_
          refine J_getN (host := "TollOnVowels") (pc := 76) (c := 1) (.ref 24) rfl in_X2 2 (by decide) (by decide +kernel) rfl (fun h => sh_k1 h 1 rfl) (fun h _ => fv_ref (Or.inr ⟨_, rfl⟩) (sh_r h 2 rfl)) dX1_traveller_76 ?_
          refine J_iload_n (pc := 79) dX1_traveller_79 rfl ?_
          refine J_ck (fun h3 => ?_)
          refine J_iald (pc := 80) (a := 24) (fun h => sh_a h 4 rfl h3) dX1_traveller_80 ?_
          exact JX_iret (pc := 81) dX1_traveller_81
        · refine J_ite (fun h_17_3 => ?_) (fun h_17_3 => ?_)
          · refine J_tableIn (pc := 17) 82 dX1_traveller_17 (by rw [h_17_3]; decide) (by rw [h_17_3]; decide) (by rw [h_17_3]; rfl) rfl ?_
            refine J_aload_n (pc := 82) dX1_traveller_82 rfl ?_
            refine J_iload_n (pc := 83) dX1_traveller_83 rfl ?_
            refine J_callV (pc := 84) (n := 1) (b := 20) (vs := [.int p1]) (ci := 0) (fun l => C_x_errandsOf l p1 M1) (lw_V q791 q793 qs32 q116 q794) nmv_X1_errandsOf rfl (by omega) (by decide) rfl (fun h => sh_k1 h 0 rfl) rfl (Nat.le_of_ble_eq_true rfl) dX1_traveller_84 (fun v2 M2 => ?_)
            exact JX_iret (pc := 87) dX1_traveller_87
          · refine J_ite (fun h_17_4 => ?_) (fun h_17_4 => ?_)
            · refine J_tableIn (pc := 17) 88 dX1_traveller_17 (by rw [h_17_4]; decide) (by rw [h_17_4]; decide) (by rw [h_17_4]; rfl) rfl ?_
              refine J_iconst (pc := 88) 0 dX1_traveller_88 (by decide) ?_
              refine J_istore_n (pc := 89) dX1_traveller_89 (by decide) ?_
              refine J_iconst (pc := 90) 0 dX1_traveller_90 (by decide) ?_
              refine J_istore (pc := 91) dX1_traveller_91 (by decide) ?_
              refine J_sub (A := [some (.ref 20), some (.int p1), none, some (.int 0), some (.int 0)]) ⟨rfl, ⟨rfl, ⟨rfl, ⟨rfl, trivial⟩⟩⟩⟩ (t_x_traveller_L93 G p1  FU 0 0 M1)
            · refine J_tableD (pc := 17) 150 dX1_traveller_17 rfl (by decide) (by decide) [0, 1, 2, 3, 4] (by decide +kernel) (by simp only [List.mem_cons, List.not_mem_nil, or_false, forall_eq_or_imp, forall_eq]; exact ⟨fun q => h_17_0 (i32_of q), fun q => h_17_1 (i32_of q), fun q => h_17_2 (i32_of q), fun q => h_17_3 (i32_of q), fun q => h_17_4 (i32_of q)⟩) ?_
              exact J_throw (pc := 150) hl9 rfl (by omega) (fun h => Sh_nw h) dX1_traveller_150 dX1_traveller_153 dX1_traveller_154 dX1_traveller_157
  · exact J_throw (pc := 8) hl9 rfl (by omega) (fun h => Sh_nw h) dX1_traveller_8 dX1_traveller_11 dX1_traveller_12 dX1_traveller_15

theorem C_x_traveller (l : Launch) (hl9 : l.stackTraces = false) (p1 : Int32) (p2 : Int32) (M : PM) : CtrX l Sh yX1_traveller cX1_traveller 5 (some .int) 7 rvI [.ref 20, .int p1, .int p2] M (x_traveller p1 p2 M) := CtrX.of hl9 (by decide +kernel) (Nat.le_of_ble_eq_true rfl) (fun G hl9 => t_x_traveller G hl9 p1 p2 M)

abbrev T_x_errand (G : JG) (M : PM) (pc : Nat) (L : List (Option Value)) (S : List Value) (o : Option (Option Int32 × PM)) : Prop := JJ G cX1_errand yX1_errand 3 7 (some .int) Sh (finX G Sh rvI) M pc L S o
def x_errand (p1 : Int32) (p2 : Int32) (M : PM) : Option (Option Int32 × PM) :=
    bd (x_in (Int32.toInt64 p1) 0 (Int32.toInt64 ((M.i 20 13) - 1)) M) fun v1 M1 =>
    if v1 = 0 then (some (none, M1.nw 99 0 6))
    else (if p2 = 0 then (ck p1 8 <|
    some (some (M1.i 35 (ix p1)), M1))
    else if p2 = 1 then (ck p1 8 <|
    some (some (M1.i 36 (ix p1)), M1))
    else if p2 = 2 then (ck p1 8 <|
    some (some (M1.i 37 (ix p1)), M1))
    else if p2 = 3 then (ck p1 8 <|
    some (some (M1.i 38 (ix p1)), M1))
    else if p2 = 4 then (bd (x_has (M1.i 21 5) p1 M1) fun v2 M2 =>
    if v2 = 0 then (some (some 0, M2))
    else (some (some 1, M2)))
    else (some (none, M1.nw 99 0 6)))

set_option maxHeartbeats 4000000 in
theorem t_x_errand (G : JG) (hl9 : (gl G).stackTraces = false) (p1 : Int32) (p2 : Int32) (M : PM) : T_x_errand G  M 0 (ent [.ref 20, .int p1, .int p2] 3) [] (x_errand p1 p2 M) := by
  unfold x_errand
  refine J_iload_n (pc := 0) dX1_errand_0 rfl ?_
  refine J_i2l (pc := 1) dX1_errand_1 ?_
  refine J_lconst (pc := 2) 0 dX1_errand_2 (by decide) ?_
  refine J_aload_n (pc := 3) dX1_errand_3 rfl ?_
  refine J_get (pc := 4) (c := 0) (.int (M.i 20 13)) rfl in_X1 13 (by decide) q190 rfl (fun h => sh_k1 h 0 rfl) (fun _ _ => rfl) dX1_errand_4 ?_
  refine J_iconst (pc := 7) 1 dX1_errand_7 (by decide) ?_
  refine J_isub (pc := 8) dX1_errand_8 ?_
  refine J_i2l (pc := 9) dX1_errand_9 ?_
  refine J_callS (pc := 10) (n := 3) (vs := [.long (Int32.toInt64 p1), .long 0, .long (Int32.toInt64 ((M.i 20 13) - 1))]) (fun l => C_x_in l (Int32.toInt64 p1) 0 (Int32.toInt64 ((M.i 20 13) - 1)) M) (lw_S q398 q399 q116 q400) nmh_X1_in rfl (by omega) (by decide) rfl (Nat.le_of_ble_eq_true rfl) dX1_errand_10 (fun v1 M1 => ?_)
  refine J_if_ne (pc := 13) 24 dX1_errand_13 rfl (fun h => if_neg h) (fun h => if_pos h) (fun _ => ?_) (fun _ => ?_)
  · refine J_iload_n (pc := 24) dX1_errand_24 rfl ?_
    refine J_ite (fun h_25_0 => ?_) (fun h_25_0 => ?_)
    · refine J_tableIn (pc := 25) 60 dX1_errand_25 (by rw [h_25_0]; decide) (by rw [h_25_0]; decide) (by rw [h_25_0]; rfl) rfl ?_
      refine J_aload_n (pc := 60) dX1_errand_60 rfl ?_
      refine J_get (pc := 61) (c := 0) (.ref 35) rfl in_X1 6 (by decide) q183 rfl (fun h => sh_k1 h 0 rfl) (fun h _ => fv_ref (Or.inr ⟨_, rfl⟩) (sh_r h 14 rfl)) dX1_errand_61 ?_
      refine J_iload_n (pc := 64) dX1_errand_64 rfl ?_
      refine J_ck (fun h1 => ?_)
      refine J_iald (pc := 65) (a := 35) (fun h => sh_a h 15 rfl h1) dX1_errand_65 ?_
      exact JX_iret (pc := 66) dX1_errand_66
    · refine J_ite (fun h_25_1 => ?_) (fun h_25_1 => ?_)
      · refine J_tableIn (pc := 25) 67 dX1_errand_25 (by rw [h_25_1]; decide) (by rw [h_25_1]; decide) (by rw [h_25_1]; rfl) rfl ?_
        refine J_aload_n (pc := 67) dX1_errand_67 rfl ?_
        refine J_get (pc := 68) (c := 0) (.ref 36) rfl in_X1 7 (by decide) q184 rfl (fun h => sh_k1 h 0 rfl) (fun h _ => fv_ref (Or.inr ⟨_, rfl⟩) (sh_r h 15 rfl)) dX1_errand_68 ?_
        refine J_iload_n (pc := 71) dX1_errand_71 rfl ?_
        refine J_ck (fun h2 => ?_)
        refine J_iald (pc := 72) (a := 36) (fun h => sh_a h 16 rfl h2) dX1_errand_72 ?_
        exact JX_iret (pc := 73) dX1_errand_73
      · refine J_ite (fun h_25_2 => ?_) (fun h_25_2 => ?_)
        · refine J_tableIn (pc := 25) 74 dX1_errand_25 (by rw [h_25_2]; decide) (by rw [h_25_2]; decide) (by rw [h_25_2]; rfl) rfl ?_
          refine J_aload_n (pc := 74) dX1_errand_74 rfl ?_
          refine J_get (pc := 75) (c := 0) (.ref 37) rfl in_X1 8 (by decide) q185 rfl (fun h => sh_k1 h 0 rfl) (fun h _ => fv_ref (Or.inr ⟨_, rfl⟩) (sh_r h 16 rfl)) dX1_errand_75 ?_
          refine J_iload_n (pc := 78) dX1_errand_78 rfl ?_
          refine J_ck (fun h3 => ?_)
          refine J_iald (pc := 79) (a := 37) (fun h => sh_a h 17 rfl h3) dX1_errand_79 ?_
          exact JX_iret (pc := 80) dX1_errand_80
        · refine J_ite (fun h_25_3 => ?_) (fun h_25_3 => ?_)
          · refine J_tableIn (pc := 25) 81 dX1_errand_25 (by rw [h_25_3]; decide) (by rw [h_25_3]; decide) (by rw [h_25_3]; rfl) rfl ?_
            refine J_aload_n (pc := 81) dX1_errand_81 rfl ?_
            refine J_get (pc := 82) (c := 0) (.ref 38) rfl in_X1 9 (by decide) q186 rfl (fun h => sh_k1 h 0 rfl) (fun h _ => fv_ref (Or.inr ⟨_, rfl⟩) (sh_r h 17 rfl)) dX1_errand_82 ?_
            refine J_iload_n (pc := 85) dX1_errand_85 rfl ?_
            refine J_ck (fun h4 => ?_)
            refine J_iald (pc := 86) (a := 38) (fun h => sh_a h 18 rfl h4) dX1_errand_86 ?_
            exact JX_iret (pc := 87) dX1_errand_87
          · refine J_ite (fun h_25_4 => ?_) (fun h_25_4 => ?_)
            · refine J_tableIn (pc := 25) 88 dX1_errand_25 (by rw [h_25_4]; decide) (by rw [h_25_4]; decide) (by rw [h_25_4]; rfl) rfl ?_
              refine J_aload_n (pc := 88) dX1_errand_88 rfl ?_
              refine J_get (pc := 89) (c := 0) (.ref 21) rfl in_X1 0 (by decide) q177 rfl (fun h => sh_k1 h 0 rfl) (fun h _ => fv_ref (Or.inl ⟨_, rfl⟩) (sh_r h 4 rfl)) dX1_errand_89 ?_
              refine J_getN (host := "TollOnVowels") (pc := 92) (c := 1) (.int (M1.i 21 5)) rfl in_X2 5 (by decide) (by decide +kernel) rfl (fun h => sh_k1 h 1 rfl) (fun _ _ => rfl) dX1_errand_92 ?_
              refine J_iload_n (pc := 95) dX1_errand_95 rfl ?_
              refine J_callS (pc := 96) (n := 2) (vs := [.int (M1.i 21 5), .int p1]) (fun l => C_x_has l (M1.i 21 5) p1 M1) (lw_S q757 q758 q116 q759) nmh_X1_has rfl (by omega) (by decide) rfl (Nat.le_of_ble_eq_true rfl) dX1_errand_96 (fun v2 M2 => ?_)
              refine J_if_eq (pc := 99) 106 dX1_errand_99 rfl (fun h => if_pos h) (fun h => if_neg h) (fun _ => ?_) (fun _ => ?_)
              · refine J_iconst (pc := 106) 0 dX1_errand_106 (by decide) ?_
                exact JX_iret (pc := 107) dX1_errand_107
              · refine J_iconst (pc := 102) 1 dX1_errand_102 (by decide) ?_
                refine J_goto (pc := 103) 107 dX1_errand_103 rfl ?_
                exact JX_iret (pc := 107) dX1_errand_107
            · refine J_tableD (pc := 25) 108 dX1_errand_25 rfl (by decide) (by decide) [0, 1, 2, 3, 4] (by decide +kernel) (by simp only [List.mem_cons, List.not_mem_nil, or_false, forall_eq_or_imp, forall_eq]; exact ⟨fun q => h_25_0 (i32_of q), fun q => h_25_1 (i32_of q), fun q => h_25_2 (i32_of q), fun q => h_25_3 (i32_of q), fun q => h_25_4 (i32_of q)⟩) ?_
              exact J_throw (pc := 108) hl9 rfl (by omega) (fun h => Sh_nw h) dX1_errand_108 dX1_errand_111 dX1_errand_112 dX1_errand_115
  · exact J_throw (pc := 16) hl9 rfl (by omega) (fun h => Sh_nw h) dX1_errand_16 dX1_errand_19 dX1_errand_20 dX1_errand_23

theorem C_x_errand (l : Launch) (hl9 : l.stackTraces = false) (p1 : Int32) (p2 : Int32) (M : PM) : CtrX l Sh yX1_errand cX1_errand 3 (some .int) 7 rvI [.ref 20, .int p1, .int p2] M (x_errand p1 p2 M) := CtrX.of hl9 (by decide +kernel) (Nat.le_of_ble_eq_true rfl) (fun G hl9 => t_x_errand G hl9 p1 p2 M)

abbrev T_x_book (G : JG) (M : PM) (pc : Nat) (L : List (Option Value)) (S : List Value) (o : Option (Option Int32 × PM)) : Prop := JJ G cX1_book yX1_book 3 7 (some .int) Sh (finX G Sh rvI) M pc L S o
def x_book (p1 : Int32) (p2 : Int32) (M : PM) : Option (Option Int32 × PM) :=
    bd (x_isStation p1 M) fun v1 M1 =>
    jn (fun (M2 : PM) =>
    some (none, M2.nw 99 0 6)) fun j1 =>
    if v1 = 0 then (j1 M1)
    else (bd (x_in (Int32.toInt64 p2) 0 4 M1) fun v2 M3 =>
    if v2 = 0 then (j1 M3)
    else (ck ((5 * p1) + p2) 30 <|
    some (some (M3.i 25 (ix ((5 * p1) + p2))), M3)))

set_option maxHeartbeats 4000000 in
theorem t_x_book (G : JG) (hl9 : (gl G).stackTraces = false) (p1 : Int32) (p2 : Int32) (M : PM) : T_x_book G  M 0 (ent [.ref 20, .int p1, .int p2] 3) [] (x_book p1 p2 M) := by
  unfold x_book
  refine J_aload_n (pc := 0) dX1_book_0 rfl ?_
  refine J_iload_n (pc := 1) dX1_book_1 rfl ?_
  refine J_callV (pc := 2) (n := 1) (b := 20) (vs := [.int p1]) (ci := 0) (fun l => C_x_isStation l p1 M) (lw_V q678 q680 qs17 q116 q681) nmv_X1_isStation rfl (by omega) (by decide) rfl (fun h => sh_k1 h 0 rfl) rfl (Nat.le_of_ble_eq_true rfl) dX1_book_2 (fun v1 M1 => ?_)
  refine J_jn (P := fun J => ∀ (M2 : PM), T_x_book G  M2 20 [none, none, none] [] (J M2)) (fun M2 => ?_) (fun j1 hj1 => ?_)
  · exact J_throw (pc := 20) hl9 rfl (by omega) (fun h => Sh_nw h) dX1_book_20 dX1_book_23 dX1_book_24 dX1_book_27
  refine J_if_eq (pc := 5) 20 dX1_book_5 rfl (fun h => if_pos h) (fun h => if_neg h) (fun _ => ?_) (fun _ => ?_)
  · exact J_sub (A := [none, none, none]) trivial (hj1 M1)
  · refine J_iload_n (pc := 8) dX1_book_8 rfl ?_
    refine J_i2l (pc := 9) dX1_book_9 ?_
    refine J_lconst (pc := 10) 0 dX1_book_10 (by decide) ?_
    refine J_ldc2 (pc := 11) 4 q1093 dX1_book_11 ?_
    refine J_callS (pc := 14) (n := 3) (vs := [.long (Int32.toInt64 p2), .long 0, .long 4]) (fun l => C_x_in l (Int32.toInt64 p2) 0 4 M1) (lw_S q398 q399 q116 q400) nmh_X1_in rfl (by omega) (by decide) rfl (Nat.le_of_ble_eq_true rfl) dX1_book_14 (fun v2 M3 => ?_)
    refine J_if_ne (pc := 17) 28 dX1_book_17 rfl (fun h => if_neg h) (fun h => if_pos h) (fun _ => ?_) (fun _ => ?_)
    · refine J_aload_n (pc := 28) dX1_book_28 rfl ?_
      refine J_get (pc := 29) (c := 0) (.ref 21) rfl in_X1 0 (by decide) q177 rfl (fun h => sh_k1 h 0 rfl) (fun h _ => fv_ref (Or.inl ⟨_, rfl⟩) (sh_r h 4 rfl)) dX1_book_29 ?_
      refine J_getN (host := "TollOnVowels") (pc := 32) (c := 1) (.ref 25) rfl in_X2 3 (by decide) (by decide +kernel) rfl (fun h => sh_k1 h 1 rfl) (fun h _ => fv_ref (Or.inr ⟨_, rfl⟩) (sh_r h 3 rfl)) dX1_book_32 ?_
      refine J_iconst (pc := 35) 5 dX1_book_35 (by decide) ?_
      refine J_iload_n (pc := 36) dX1_book_36 rfl ?_
      refine J_imul (pc := 37) dX1_book_37 ?_
      refine J_iload_n (pc := 38) dX1_book_38 rfl ?_
      refine J_iadd (pc := 39) dX1_book_39 ?_
      refine J_ck (fun h1 => ?_)
      refine J_iald (pc := 40) (a := 25) (fun h => sh_a h 5 rfl h1) dX1_book_40 ?_
      exact JX_iret (pc := 41) dX1_book_41
    · exact J_sub (A := [none, none, none]) trivial (hj1 M3)

theorem C_x_book (l : Launch) (hl9 : l.stackTraces = false) (p1 : Int32) (p2 : Int32) (M : PM) : CtrX l Sh yX1_book cX1_book 3 (some .int) 7 rvI [.ref 20, .int p1, .int p2] M (x_book p1 p2 M) := CtrX.of hl9 (by decide +kernel) (Nat.le_of_ble_eq_true rfl) (fun G hl9 => t_x_book G hl9 p1 p2 M)

abbrev T_x_row (G : JG) (M : PM) (pc : Nat) (L : List (Option Value)) (S : List Value) (o : Option (Option Int64 × PM)) : Prop := JJ G cX1_row yX1_row 2 7 (some .long) Sh (finX G Sh rvL) M pc L S o
def x_row (p1 : Int32) (M : PM) : Option (Option Int64 × PM) :=
    bd (x_in (Int32.toInt64 p1) 0 (Int32.toInt64 ((M.i 20 67) - 1)) M) fun v1 M1 =>
    if v1 = 0 then (some (none, M1.nw 99 0 6))
    else (ck p1 16 <|
    some (some (M1.l 71 (ix p1)), M1))

set_option maxHeartbeats 4000000 in
theorem t_x_row (G : JG) (hl9 : (gl G).stackTraces = false) (p1 : Int32) (M : PM) : T_x_row G  M 0 (ent [.ref 20, .int p1] 2) [] (x_row p1 M) := by
  unfold x_row
  refine J_iload_n (pc := 0) dX1_row_0 rfl ?_
  refine J_i2l (pc := 1) dX1_row_1 ?_
  refine J_lconst (pc := 2) 0 dX1_row_2 (by decide) ?_
  refine J_aload_n (pc := 3) dX1_row_3 rfl ?_
  refine J_get (pc := 4) (c := 0) (.int (M.i 20 67)) rfl in_X1 67 (by decide) q251 rfl (fun h => sh_k1 h 0 rfl) (fun _ _ => rfl) dX1_row_4 ?_
  refine J_iconst (pc := 7) 1 dX1_row_7 (by decide) ?_
  refine J_isub (pc := 8) dX1_row_8 ?_
  refine J_i2l (pc := 9) dX1_row_9 ?_
  refine J_callS (pc := 10) (n := 3) (vs := [.long (Int32.toInt64 p1), .long 0, .long (Int32.toInt64 ((M.i 20 67) - 1))]) (fun l => C_x_in l (Int32.toInt64 p1) 0 (Int32.toInt64 ((M.i 20 67) - 1)) M) (lw_S q398 q399 q116 q400) nmh_X1_in rfl (by omega) (by decide) rfl (Nat.le_of_ble_eq_true rfl) dX1_row_10 (fun v1 M1 => ?_)
  refine J_if_ne (pc := 13) 24 dX1_row_13 rfl (fun h => if_neg h) (fun h => if_pos h) (fun _ => ?_) (fun _ => ?_)
  · refine J_aload_n (pc := 24) dX1_row_24 rfl ?_
    refine J_get (pc := 25) (c := 0) (.ref 71) rfl in_X1 66 (by decide) q250 rfl (fun h => sh_k1 h 0 rfl) (fun h _ => fv_ref (Or.inr ⟨_, rfl⟩) (sh_r h 50 rfl)) dX1_row_25 ?_
    refine J_iload_n (pc := 28) dX1_row_28 rfl ?_
    refine J_ck (fun h1 => ?_)
    refine J_lald (pc := 29) (a := 71) (fun h => sh_a h 51 rfl h1) dX1_row_29 ?_
    exact JX_lret (pc := 30) dX1_row_30
  · exact J_throw (pc := 16) hl9 rfl (by omega) (fun h => Sh_nw h) dX1_row_16 dX1_row_19 dX1_row_20 dX1_row_23

theorem C_x_row (l : Launch) (hl9 : l.stackTraces = false) (p1 : Int32) (M : PM) : CtrX l Sh yX1_row cX1_row 2 (some .long) 7 rvL [.ref 20, .int p1] M (x_row p1 M) := CtrX.of hl9 (by decide +kernel) (Nat.le_of_ble_eq_true rfl) (fun G hl9 => t_x_row G hl9 p1 M)

