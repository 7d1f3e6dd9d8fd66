set_option maxRecDepth 100000
/-- the script: sL ints sx, at the cell of id 0, below all that the law makes -/
def SC (G : JG) (sL : Nat) (sx : Nat → Int32) : Prop := match G with
  | (_, _, _, _, s, _, _, _, _, _, E, _) => va_X (E.ad 0) sL sx s s.heap ∧ E.ad 0 < s.heap.size ∧ ¬ E.B ≤ E.ad 0
section JS
variable {α : Type} {G : JG} {cc : ByteArray} {y : MethodName} {nL D : Nat} {ret : Option FieldType} {I : PM → Prop} {fin : α → PM → State → Prop} {M : PM} {pc : Nat} {L : List (Option Value)} {S : List Value} {o : Option (α × PM)} {sL : Nat} {sx : Nat → Int32}
theorem J_sclen (hs : SC G sL sx) (d : decode cc pc = .ok (.arraylength, 1)) (kk : JJ G cc y nL D ret I fin M (pc + 1) L (.int (Int32.ofNat sL) :: S) o) : JJ G cc y nL D ret I fin M pc L (.ref 0 :: S) o :=
  J_lift (fun p l e R s m args below meth c0 E M0 eG cx H locs ls k0 n Q _ _ hl hS hR hI w => by
    subst eG
    exact va_slen (A := fun q => E.B ≤ q) cx.1 cx.2.1 hs.1 hs.2.1 hs.2.2 hS d (w ls hl)) kk
theorem J_scld {i : Int32} (hs : SC G sL sx) (hi : vp_in i sL) (d : decode cc pc = .ok (.iaload, 1)) (kk : JJ G cc y nL D ret I fin M (pc + 1) L (.int (sx (ix i)) :: S) o) : JJ G cc y nL D ret I fin M pc L (.int i :: .ref 0 :: S) o :=
  J_lift (fun p l e R s m args below meth c0 E M0 eG cx H locs ls k0 n Q _ _ hl hS hR hI w => by
    subst eG
    exact va_sld (A := fun q => E.B ≤ q) cx.1 cx.2.1 hs.1 hs.2.1 hs.2.2 hS hi d (w ls hl)) kk
end JS
abbrev T_lw_law (G : JG) (M : PM) (pc : Nat) (L : List (Option Value)) (S : List Value) (o : Option (Int32 × PM)) : Prop := JJ G cL_law x 8 147 (some .boolean) Sh (finR G Sh rvI) M pc L S o
def lw_law_L23 (sL : Nat) (sx : Nat → Int32) : Nat → Int32 → PM → Option (Int32 × PM)
  | 0, _, _ => none
  | n + 1, v1, M6 =>
    if ((Int32.ofNat sL) - 5) < v1 then (some (1, M6))
    else (ck v1 sL <|
    jn (fun (M7 : PM) =>
    lt (v1 + 5) fun v2 =>
    lw_law_L23 sL sx n v2 M7) fun j1 =>
    if ((sx (ix v1)) &&& 63) = 0 then (ck (v1 + 1) sL <|
    bd (x_sign (sx (ix (v1 + 1))) M6) fun v3 M8 =>
    ck (v1 + 1) sL <|
    bd (m_sign (sx (ix (v1 + 1))) M8) fun v4 M9 =>
    if v3 = v4 then (j1 M9)
    else (some (0, M9)))
    else if ((sx (ix v1)) &&& 63) = 1 then (ck (v1 + 1) sL <|
    bd (x_end (sx (ix (v1 + 1))) M6) fun v5 M10 =>
    ck (v1 + 1) sL <|
    bd (m_end (sx (ix (v1 + 1))) M10) fun v6 M11 =>
    if v5 = v6 then (j1 M11)
    else (some (0, M11)))
    else if ((sx (ix v1)) &&& 63) = 2 then (ck (v1 + 1) sL <|
    bd (x_road (sx (ix (v1 + 1))) M6) fun v7 M12 =>
    ck (v1 + 1) sL <|
    bd (m_road (sx (ix (v1 + 1))) M12) fun v8 M13 =>
    if v7 = v8 then (j1 M13)
    else (some (0, M13)))
    else if ((sx (ix v1)) &&& 63) = 3 then (bd (x_words M6) fun v9 M14 =>
    bd (m_words M14) fun v10 M15 =>
    if v9 = v10 then (j1 M15)
    else (some (0, M15)))
    else if ((sx (ix v1)) &&& 63) = 4 then (bd (x_travellers M6) fun v11 M16 =>
    bd (m_travellers M16) fun v12 M17 =>
    if v11 = v12 then (j1 M17)
    else (some (0, M17)))
    else if ((sx (ix v1)) &&& 63) = 5 then (bd (x_errands M6) fun v13 M18 =>
    bd (m_errands M18) fun v14 M19 =>
    if v13 = v14 then (j1 M19)
    else (some (0, M19)))
    else if ((sx (ix v1)) &&& 63) = 6 then (bd (x_rule M6) fun v15 M20 =>
    bd (m_rule M20) fun v16 M21 =>
    if v15 = v16 then (j1 M21)
    else (some (0, M21)))
    else if ((sx (ix v1)) &&& 63) = 7 then (ck (v1 + 1) sL <|
    ck (v1 + 2) sL <|
    bd (lw_word (sx (ix (v1 + 1))) (sx (ix (v1 + 2))) M6) fun v17 M22 =>
    ck (v1 + 1) sL <|
    ck (v1 + 2) sL <|
    bd (m_word (sx (ix (v1 + 1))) (sx (ix (v1 + 2))) M22) fun v18 M23 =>
    bd (m_thrown M23) fun v19 M24 =>
    if v19 = v17 then (if v17 = 0 then (ck 0 1 <|
    if (lg_cmp (M24.l 104 (ix 0)) (Int32.toInt64 v18)) = 0 then (j1 M24)
    else (some (0, M24)))
    else (j1 M24))
    else (some (0, M24)))
    else if ((sx (ix v1)) &&& 63) = 8 then (ck (v1 + 1) sL <|
    ck (v1 + 2) sL <|
    bd (lw_traveller (sx (ix (v1 + 1))) (sx (ix (v1 + 2))) M6) fun v20 M25 =>
    ck (v1 + 1) sL <|
    ck (v1 + 2) sL <|
    bd (m_traveller (sx (ix (v1 + 1))) (sx (ix (v1 + 2))) M25) fun v21 M26 =>
    bd (m_thrown M26) fun v22 M27 =>
    if v22 = v20 then (if v20 = 0 then (ck 0 1 <|
    if (lg_cmp (M27.l 104 (ix 0)) (Int32.toInt64 v21)) = 0 then (j1 M27)
    else (some (0, M27)))
    else (j1 M27))
    else (some (0, M27)))
    else if ((sx (ix v1)) &&& 63) = 9 then (ck (v1 + 1) sL <|
    ck (v1 + 2) sL <|
    bd (lw_errand (sx (ix (v1 + 1))) (sx (ix (v1 + 2))) M6) fun v23 M28 =>
    ck (v1 + 1) sL <|
    ck (v1 + 2) sL <|
    bd (m_errand (sx (ix (v1 + 1))) (sx (ix (v1 + 2))) M28) fun v24 M29 =>
    bd (m_thrown M29) fun v25 M30 =>
    if v25 = v23 then (if v23 = 0 then (ck 0 1 <|
    if (lg_cmp (M30.l 104 (ix 0)) (Int32.toInt64 v24)) = 0 then (j1 M30)
    else (some (0, M30)))
    else (j1 M30))
    else (some (0, M30)))
    else if ((sx (ix v1)) &&& 63) = 10 then (ck (v1 + 1) sL <|
    ck (v1 + 2) sL <|
    bd (lw_book (sx (ix (v1 + 1))) (sx (ix (v1 + 2))) M6) fun v26 M31 =>
    ck (v1 + 1) sL <|
    ck (v1 + 2) sL <|
    bd (m_book (sx (ix (v1 + 1))) (sx (ix (v1 + 2))) M31) fun v27 M32 =>
    bd (m_thrown M32) fun v28 M33 =>
    if v28 = v26 then (if v26 = 0 then (ck 0 1 <|
    if (lg_cmp (M33.l 104 (ix 0)) (Int32.toInt64 v27)) = 0 then (j1 M33)
    else (some (0, M33)))
    else (j1 M33))
    else (some (0, M33)))
    else if ((sx (ix v1)) &&& 63) = 11 then (ck (v1 + 1) sL <|
    ck (v1 + 2) sL <|
    ck (v1 + 3) sL <|
    ck (v1 + 4) sL <|
    bd (x_sheet (sx (ix (v1 + 1))) (sx (ix (v1 + 2))) (sx (ix (v1 + 3))) (sx (ix (v1 + 4))) M6) fun v29 M34 =>
    ck (v1 + 1) sL <|
    ck (v1 + 2) sL <|
    ck (v1 + 3) sL <|
    ck (v1 + 4) sL <|
    bd (m_sheet (sx (ix (v1 + 1))) (sx (ix (v1 + 2))) (sx (ix (v1 + 3))) (sx (ix (v1 + 4))) M34) fun v30 M35 =>
    if v29 = v30 then (j1 M35)
    else (some (0, M35)))
    else if ((sx (ix v1)) &&& 63) = 12 then (ck (v1 + 1) sL <|
    ck (v1 + 2) sL <|
    bd (x_toll (sx (ix (v1 + 1))) (sx (ix (v1 + 2))) M6) fun v31 M36 =>
    ck (v1 + 1) sL <|
    ck (v1 + 2) sL <|
    bd (m_toll (sx (ix (v1 + 1))) (sx (ix (v1 + 2))) M36) fun v32 M37 =>
    if v31 = v32 then (j1 M37)
    else (some (0, M37)))
    else if ((sx (ix v1)) &&& 63) = 13 then (ck (v1 + 1) sL <|
    ck (v1 + 2) sL <|
    bd (x_walk (sx (ix (v1 + 1))) (sx (ix (v1 + 2))) M6) fun v33 M38 =>
    ck (v1 + 1) sL <|
    ck (v1 + 2) sL <|
    bd (m_walk (sx (ix (v1 + 1))) (sx (ix (v1 + 2))) M38) fun v34 M39 =>
    if v33 = v34 then (j1 M39)
    else (some (0, M39)))
    else if ((sx (ix v1)) &&& 63) = 14 then (ck (v1 + 1) sL <|
    bd (x_pause (sx (ix (v1 + 1))) M6) fun v35 M40 =>
    ck (v1 + 1) sL <|
    bd (m_pause (sx (ix (v1 + 1))) M40) fun v36 M41 =>
    if v35 = v36 then (j1 M41)
    else (some (0, M41)))
    else if ((sx (ix v1)) &&& 63) = 15 then (ck (v1 + 1) sL <|
    ck (v1 + 2) sL <|
    bd (x_say (sx (ix (v1 + 1))) (sx (ix (v1 + 2))) M6) fun v37 M42 =>
    ck (v1 + 1) sL <|
    ck (v1 + 2) sL <|
    bd (m_say (sx (ix (v1 + 1))) (sx (ix (v1 + 2))) M42) fun v38 M43 =>
    if v37 = v38 then (j1 M43)
    else (some (0, M43)))
    else if ((sx (ix v1)) &&& 63) = 16 then (ck (v1 + 1) sL <|
    ck (v1 + 2) sL <|
    ck (v1 + 3) sL <|
    bd (x_alms (sx (ix (v1 + 1))) (sx (ix (v1 + 2))) (sx (ix (v1 + 3))) M6) fun v39 M44 =>
    ck (v1 + 1) sL <|
    ck (v1 + 2) sL <|
    ck (v1 + 3) sL <|
    bd (m_alms (sx (ix (v1 + 1))) (sx (ix (v1 + 2))) (sx (ix (v1 + 3))) M44) fun v40 M45 =>
    if v39 = v40 then (j1 M45)
    else (some (0, M45)))
    else if ((sx (ix v1)) &&& 63) = 17 then (bd (x_journey M6) fun v41 M46 =>
    bd (m_journey M46) fun v42 M47 =>
    if v41 = v42 then (j1 M47)
    else (some (0, M47)))
    else if ((sx (ix v1)) &&& 63) = 18 then (bd (x_undo M6) fun v43 M48 =>
    bd (m_undo M48) fun v44 M49 =>
    if v43 = v44 then (j1 M49)
    else (some (0, M49)))
    else if ((sx (ix v1)) &&& 63) = 19 then (ck (v1 + 1) sL <|
    ck (v1 + 2) sL <|
    bd (x_cheapest (sx (ix (v1 + 1))) (sx (ix (v1 + 2))) M6) fun v45 M50 =>
    ck (v1 + 1) sL <|
    ck (v1 + 2) sL <|
    bd (m_cheapest (sx (ix (v1 + 1))) (sx (ix (v1 + 2))) M50) fun v46 M51 =>
    if v45 = v46 then (j1 M51)
    else (some (0, M51)))
    else if ((sx (ix v1)) &&& 63) = 20 then (ck (v1 + 1) sL <|
    bd (x_sentence (sx (ix (v1 + 1))) M6) fun v47 M52 =>
    ck (v1 + 1) sL <|
    bd (m_sentence (sx (ix (v1 + 1))) M52) fun v48 M53 =>
    if v47 = v48 then (j1 M53)
    else (some (0, M53)))
    else if ((sx (ix v1)) &&& 63) = 21 then (ck (v1 + 1) sL <|
    ck (v1 + 2) sL <|
    bd (x_when (sx (ix (v1 + 1))) (sx (ix (v1 + 2))) M6) fun v49 M54 =>
    ck (v1 + 1) sL <|
    ck (v1 + 2) sL <|
    bd (m_when (sx (ix (v1 + 1))) (sx (ix (v1 + 2))) M54) fun v50 M55 =>
    if v49 = v50 then (j1 M55)
    else (some (0, M55)))
    else if ((sx (ix v1)) &&& 63) = 22 then (ck (v1 + 1) sL <|
    ck (v1 + 2) sL <|
    ck (v1 + 3) sL <|
    bd (x_shortest (sx (ix (v1 + 1))) (sx (ix (v1 + 2))) (sx (ix (v1 + 3))) M6) fun v51 M56 =>
    ck (v1 + 1) sL <|
    ck (v1 + 2) sL <|
    ck (v1 + 3) sL <|
    bd (m_shortest (sx (ix (v1 + 1))) (sx (ix (v1 + 2))) (sx (ix (v1 + 3))) M56) fun v52 M57 =>
    if v51 = v52 then (j1 M57)
    else (some (0, M57)))
    else if ((sx (ix v1)) &&& 63) = 23 then (ck (v1 + 1) sL <|
    ck (v1 + 2) sL <|
    bd (x_differ (sx (ix (v1 + 1))) (sx (ix (v1 + 2))) M6) fun v53 M58 =>
    ck (v1 + 1) sL <|
    ck (v1 + 2) sL <|
    bd (m_differ (sx (ix (v1 + 1))) (sx (ix (v1 + 2))) M58) fun v54 M59 =>
    if v53 = v54 then (j1 M59)
    else (some (0, M59)))
    else if ((sx (ix v1)) &&& 63) = 24 then (ck (v1 + 1) sL <|
    bd (x_near (sx (ix (v1 + 1))) M6) fun v55 M60 =>
    ck (v1 + 1) sL <|
    bd (m_near (sx (ix (v1 + 1))) M60) fun v56 M61 =>
    if v55 = v56 then (j1 M61)
    else (some (0, M61)))
    else if ((sx (ix v1)) &&& 63) = 25 then (ck (v1 + 1) sL <|
    ck (v1 + 2) sL <|
    ck (v1 + 3) sL <|
    bd (x_heard (sx (ix (v1 + 1))) (sx (ix (v1 + 2))) (sx (ix (v1 + 3))) M6) fun v57 M62 =>
    ck (v1 + 1) sL <|
    ck (v1 + 2) sL <|
    ck (v1 + 3) sL <|
    bd (m_heard (sx (ix (v1 + 1))) (sx (ix (v1 + 2))) (sx (ix (v1 + 3))) M62) fun v58 M63 =>
    if v57 = v58 then (j1 M63)
    else (some (0, M63)))
    else if ((sx (ix v1)) &&& 63) = 26 then (ck (v1 + 1) sL <|
    bd (x_code (sx (ix (v1 + 1))) M6) fun v59 M64 =>
    ck (v1 + 1) sL <|
    bd (m_code (sx (ix (v1 + 1))) M64) fun v60 M65 =>
    if v59 = v60 then (j1 M65)
    else (some (0, M65)))
    else if ((sx (ix v1)) &&& 63) = 27 then (ck (v1 + 1) sL <|
    ck (v1 + 2) sL <|
    bd (x_trip (sx (ix (v1 + 1))) (sx (ix (v1 + 2))) M6) fun v61 M66 =>
    ck (v1 + 1) sL <|
    ck (v1 + 2) sL <|
    bd (m_trip (sx (ix (v1 + 1))) (sx (ix (v1 + 2))) M66) fun v62 M67 =>
    if v61 = v62 then (j1 M67)
    else (some (0, M67)))
    else if ((sx (ix v1)) &&& 63) = 28 then (ck (v1 + 1) sL <|
    bd (x_haste (sx (ix (v1 + 1))) M6) fun v63 M68 =>
    ck (v1 + 1) sL <|
    bd (m_haste (sx (ix (v1 + 1))) M68) fun v64 M69 =>
    if v63 = v64 then (j1 M69)
    else (some (0, M69)))
    else if ((sx (ix v1)) &&& 63) = 29 then (ck (v1 + 1) sL <|
    bd (x_best (sx (ix (v1 + 1))) M6) fun v65 M70 =>
    ck (v1 + 1) sL <|
    bd (m_best (sx (ix (v1 + 1))) M70) fun v66 M71 =>
    if v65 = v66 then (j1 M71)
    else (some (0, M71)))
    else if ((sx (ix v1)) &&& 63) = 30 then (ck (v1 + 1) sL <|
    ck (v1 + 2) sL <|
    bd (x_takes (sx (ix (v1 + 1))) (sx (ix (v1 + 2))) M6) fun v67 M72 =>
    ck (v1 + 1) sL <|
    ck (v1 + 2) sL <|
    bd (m_takes (sx (ix (v1 + 1))) (sx (ix (v1 + 2))) M72) fun v68 M73 =>
    if v67 = v68 then (j1 M73)
    else (some (0, M73)))
    else if ((sx (ix v1)) &&& 63) = 31 then (ck (v1 + 1) sL <|
    bd (x_greed (sx (ix (v1 + 1))) M6) fun v69 M74 =>
    ck (v1 + 1) sL <|
    bd (m_greed (sx (ix (v1 + 1))) M74) fun v70 M75 =>
    if v69 = v70 then (j1 M75)
    else (some (0, M75)))
    else if ((sx (ix v1)) &&& 63) = 32 then (ck (v1 + 1) sL <|
    bd (x_law (sx (ix (v1 + 1))) M6) fun v71 M76 =>
    ck (v1 + 1) sL <|
    bd (m_law (sx (ix (v1 + 1))) M76) fun v72 M77 =>
    if v71 = v72 then (j1 M77)
    else (some (0, M77)))
    else if ((sx (ix v1)) &&& 63) = 33 then (bd (x_said M6) fun v73 M78 =>
    bd (m_said M78) fun v74 M79 =>
    if v73 = v74 then (j1 M79)
    else (some (0, M79)))
    else if ((sx (ix v1)) &&& 63) = 34 then (bd (x_ask M6) fun v75 M80 =>
    bd (m_ask M80) fun v76 M81 =>
    if v75 = v76 then (j1 M81)
    else (some (0, M81)))
    else if ((sx (ix v1)) &&& 63) = 35 then (ck (v1 + 1) sL <|
    ck (v1 + 2) sL <|
    bd (x_years (sx (ix (v1 + 1))) (sx (ix (v1 + 2))) M6) fun v77 M82 =>
    ck (v1 + 1) sL <|
    ck (v1 + 2) sL <|
    bd (m_years (sx (ix (v1 + 1))) (sx (ix (v1 + 2))) M82) fun v78 M83 =>
    if v77 = v78 then (j1 M83)
    else (some (0, M83)))
    else if ((sx (ix v1)) &&& 63) = 36 then (ck (v1 + 1) sL <|
    bd (x_keep (sx (ix (v1 + 1))) M6) fun v79 M84 =>
    ck (v1 + 1) sL <|
    bd (m_keep (sx (ix (v1 + 1))) M84) fun v80 M85 =>
    if v79 = v80 then (j1 M85)
    else (some (0, M85)))
    else if ((sx (ix v1)) &&& 63) = 37 then (ck (v1 + 1) sL <|
    bd (x_again (sx (ix (v1 + 1))) M6) fun v81 M86 =>
    ck (v1 + 1) sL <|
    bd (m_again (sx (ix (v1 + 1))) M86) fun v82 M87 =>
    if v81 = v82 then (j1 M87)
    else (some (0, M87)))
    else if ((sx (ix v1)) &&& 63) = 38 then (ck (v1 + 1) sL <|
    bd (x_count (sx (ix (v1 + 1))) M6) fun v83 M88 =>
    ck (v1 + 1) sL <|
    bd (m_count (sx (ix (v1 + 1))) M88) fun v84 M89 =>
    if v83 = v84 then (j1 M89)
    else (some (0, M89)))
    else if ((sx (ix v1)) &&& 63) = 39 then (ck (v1 + 1) sL <|
    bd (lw_row (sx (ix (v1 + 1))) M6) fun v85 M90 =>
    ck (v1 + 1) sL <|
    bd (m_row (sx (ix (v1 + 1))) M90) fun w1 M91 =>
    bd (m_thrown M91) fun v86 M92 =>
    if v86 = v85 then (if v85 = 0 then (ck 0 1 <|
    if (lg_cmp (M92.l 104 (ix 0)) w1) = 0 then (j1 M92)
    else (some (0, M92)))
    else (j1 M92))
    else (some (0, M92)))
    else (j1 M6))

set_option maxHeartbeats 4000000 in
theorem t_lw_law_L23 (G : JG) (sL : Nat) (sx : Nat → Int32) (hl9 : (gl G).stackTraces = false) (hsc : SC G sL sx) : ∀ (n : Nat) (v1 : Int32) (M6 : PM), T_lw_law G  M6 23 [some (.ref 0), some (.ref 20), some (.ref 72), some (.ref 104), some (.int v1), none, none, none] [] (lw_law_L23 sL sx n v1 M6) := by
  intro n
  induction n with
  | zero =>
    intro v1 M6
    exact J_none
  | succ n ih =>
    intro v1 M6
    rw [lw_law_L23]
    refine J_iload (pc := 23) dL_law_23 rfl ?_
    refine J_aload_n (pc := 25) dL_law_25 rfl ?_
    refine J_sclen (pc := 26) hsc dL_law_26 ?_
    refine J_iconst (pc := 27) 5 dL_law_27 (by decide) ?_
    refine J_isub (pc := 28) dL_law_28 ?_
    refine J_icmp_gt (pc := 29) 1540 dL_law_29 rfl (fun h => if_pos h) (fun h => if_neg h) (fun _ => ?_) (fun _ => ?_)
    · refine J_iconst (pc := 1540) 1 dL_law_1540 (by decide) ?_
      exact J_zret (pc := 1541) rfl dL_law_1541
    · refine J_aload_n (pc := 32) dL_law_32 rfl ?_
      refine J_iload (pc := 33) dL_law_33 rfl ?_
      refine J_ck (fun h4 => ?_)
      refine J_scld (pc := 35) hsc h4 dL_law_35 ?_
      refine J_bipush (pc := 36) 63 dL_law_36 (by decide) ?_
      refine J_iand (pc := 38) dL_law_38 ?_
      refine J_jn (P := fun J => ∀ (M7 : PM), T_lw_law G  M7 1534 [some (.ref 0), some (.ref 20), some (.ref 72), some (.ref 104), some (.int v1), none, none, none] [] (J M7)) (fun M7 => ?_) (fun j1 hj1 => ?_)
      · refine J_iincL (pc := 1534) (n := 5) (by decide) dL_law_1534 rfl (by decide) (fun v2 => ?_)
        refine J_goto (pc := 1537) 23 dL_law_1537 rfl ?_
        exact J_sub (A := [some (.ref 0), some (.ref 20), some (.ref 72), some (.ref 104), some (.int v2), none, none, none]) ⟨rfl, ⟨rfl, ⟨rfl, ⟨rfl, ⟨rfl, trivial⟩⟩⟩⟩⟩ (ih v2 M7)
      refine J_ite (fun h_39_0 => ?_) (fun h_39_0 => ?_)
      · refine J_tableIn (pc := 39) 212 dL_law_39 (by rw [h_39_0]; decide) (by rw [h_39_0]; decide) (by rw [h_39_0]; rfl) rfl ?_
        refine J_aload_n (pc := 212) dL_law_212 rfl ?_
        refine J_aload_n (pc := 213) dL_law_213 rfl ?_
        refine J_iload (pc := 214) dL_law_214 rfl ?_
        refine J_iconst (pc := 216) 1 dL_law_216 (by decide) ?_
        refine J_iadd (pc := 217) dL_law_217 ?_
        refine J_ck (fun h5 => ?_)
        refine J_scld (pc := 218) hsc h5 dL_law_218 ?_
        refine J_callV (pc := 219) (n := 1) (b := 20) (vs := [.int (sx (ix (v1 + 1)))]) (ci := 0) (fun l => C_x_sign l (sx (ix (v1 + 1))) M6) (lw_V q390 q391 q392 q116 q393) nmv_X1_sign rfl (by omega) (by decide) rfl (fun h => sh_k1 h 0 rfl) rfl (Nat.le_of_ble_eq_true rfl) dL_law_219 (fun v3 M8 => ?_)
        refine J_aload_n (pc := 222) dL_law_222 rfl ?_
        refine J_aload_n (pc := 223) dL_law_223 rfl ?_
        refine J_iload (pc := 224) dL_law_224 rfl ?_
        refine J_iconst (pc := 226) 1 dL_law_226 (by decide) ?_
        refine J_iadd (pc := 227) dL_law_227 ?_
        refine J_ck (fun h6 => ?_)
        refine J_scld (pc := 228) hsc h6 dL_law_228 ?_
        refine J_callV (pc := 229) (n := 1) (b := 72) (vs := [.int (sx (ix (v1 + 1)))]) (ci := 2) (fun l => C_m_sign l (sx (ix (v1 + 1))) M8) (lw_V q1281 q1282 q1283 q118 q1284) nmv_X3_sign rfl (by omega) (by decide) rfl (fun h => sh_k1 h 52 rfl) rfl (Nat.le_of_ble_eq_true rfl) dL_law_229 (fun v4 M9 => ?_)
        refine J_icmp_eq (pc := 232) 1534 dL_law_232 rfl (fun h => if_pos h) (fun h => if_neg h) (fun _ => ?_) (fun _ => ?_)
        · exact J_sub (A := [some (.ref 0), some (.ref 20), some (.ref 72), some (.ref 104), some (.int v1), none, none, none]) ⟨rfl, ⟨rfl, ⟨rfl, ⟨rfl, ⟨rfl, trivial⟩⟩⟩⟩⟩ (hj1 M9)
        · refine J_iconst (pc := 235) 0 dL_law_235 (by decide) ?_
          exact J_zret (pc := 236) rfl dL_law_236
      · refine J_ite (fun h_39_1 => ?_) (fun h_39_1 => ?_)
        · refine J_tableIn (pc := 39) 237 dL_law_39 (by rw [h_39_1]; decide) (by rw [h_39_1]; decide) (by rw [h_39_1]; rfl) rfl ?_
          refine J_aload_n (pc := 237) dL_law_237 rfl ?_
          refine J_aload_n (pc := 238) dL_law_238 rfl ?_
          refine J_iload (pc := 239) dL_law_239 rfl ?_
          refine J_iconst (pc := 241) 1 dL_law_241 (by decide) ?_
          refine J_iadd (pc := 242) dL_law_242 ?_
          refine J_ck (fun h7 => ?_)
          refine J_scld (pc := 243) hsc h7 dL_law_243 ?_
          refine J_callV (pc := 244) (n := 1) (b := 20) (vs := [.int (sx (ix (v1 + 1)))]) (ci := 0) (fun l => C_x_end l (sx (ix (v1 + 1))) M6) (lw_V q394 q395 q396 q116 q397) nmv_X1_end rfl (by omega) (by decide) rfl (fun h => sh_k1 h 0 rfl) rfl (Nat.le_of_ble_eq_true rfl) dL_law_244 (fun v5 M10 => ?_)
          refine J_aload_n (pc := 247) dL_law_247 rfl ?_
          refine J_aload_n (pc := 248) dL_law_248 rfl ?_
          refine J_iload (pc := 249) dL_law_249 rfl ?_
          refine J_iconst (pc := 251) 1 dL_law_251 (by decide) ?_
          refine J_iadd (pc := 252) dL_law_252 ?_
          refine J_ck (fun h8 => ?_)
          refine J_scld (pc := 253) hsc h8 dL_law_253 ?_
          refine J_callV (pc := 254) (n := 1) (b := 72) (vs := [.int (sx (ix (v1 + 1)))]) (ci := 2) (fun l => C_m_end l (sx (ix (v1 + 1))) M10) (lw_V q1285 q1286 q1287 q118 q1288) nmv_X3_end rfl (by omega) (by decide) rfl (fun h => sh_k1 h 52 rfl) rfl (Nat.le_of_ble_eq_true rfl) dL_law_254 (fun v6 M11 => ?_)
          refine J_icmp_eq (pc := 257) 1534 dL_law_257 rfl (fun h => if_pos h) (fun h => if_neg h) (fun _ => ?_) (fun _ => ?_)
          · exact J_sub (A := [some (.ref 0), some (.ref 20), some (.ref 72), some (.ref 104), some (.int v1), none, none, none]) ⟨rfl, ⟨rfl, ⟨rfl, ⟨rfl, ⟨rfl, trivial⟩⟩⟩⟩⟩ (hj1 M11)
          · refine J_iconst (pc := 260) 0 dL_law_260 (by decide) ?_
            exact J_zret (pc := 261) rfl dL_law_261
        · refine J_ite (fun h_39_2 => ?_) (fun h_39_2 => ?_)
          · refine J_tableIn (pc := 39) 262 dL_law_39 (by rw [h_39_2]; decide) (by rw [h_39_2]; decide) (by rw [h_39_2]; rfl) rfl ?_
            refine J_aload_n (pc := 262) dL_law_262 rfl ?_
            refine J_aload_n (pc := 263) dL_law_263 rfl ?_
            refine J_iload (pc := 264) dL_law_264 rfl ?_
            refine J_iconst (pc := 266) 1 dL_law_266 (by decide) ?_
            refine J_iadd (pc := 267) dL_law_267 ?_
            refine J_ck (fun h9 => ?_)
            refine J_scld (pc := 268) hsc h9 dL_law_268 ?_
            refine J_callV (pc := 269) (n := 1) (b := 20) (vs := [.int (sx (ix (v1 + 1)))]) (ci := 0) (fun l => C_x_road l (sx (ix (v1 + 1))) M6) (lw_V q560 q561 q562 q116 q563) nmv_X1_road rfl (by omega) (by decide) rfl (fun h => sh_k1 h 0 rfl) rfl (Nat.le_of_ble_eq_true rfl) dL_law_269 (fun v7 M12 => ?_)
            refine J_aload_n (pc := 272) dL_law_272 rfl ?_
            refine J_aload_n (pc := 273) dL_law_273 rfl ?_
            refine J_iload (pc := 274) dL_law_274 rfl ?_
            refine J_iconst (pc := 276) 1 dL_law_276 (by decide) ?_
            refine J_iadd (pc := 277) dL_law_277 ?_
            refine J_ck (fun h10 => ?_)
            refine J_scld (pc := 278) hsc h10 dL_law_278 ?_
            refine J_callV (pc := 279) (n := 1) (b := 72) (vs := [.int (sx (ix (v1 + 1)))]) (ci := 2) (fun l => C_m_road l (sx (ix (v1 + 1))) M12) (lw_V q1292 q1293 q1294 q118 q1295) nmv_X3_road rfl (by omega) (by decide) rfl (fun h => sh_k1 h 52 rfl) rfl (Nat.le_of_ble_eq_true rfl) dL_law_279 (fun v8 M13 => ?_)
            refine J_icmp_eq (pc := 282) 1534 dL_law_282 rfl (fun h => if_pos h) (fun h => if_neg h) (fun _ => ?_) (fun _ => ?_)
            · exact J_sub (A := [some (.ref 0), some (.ref 20), some (.ref 72), some (.ref 104), some (.int v1), none, none, none]) ⟨rfl, ⟨rfl, ⟨rfl, ⟨rfl, ⟨rfl, trivial⟩⟩⟩⟩⟩ (hj1 M13)
            · refine J_iconst (pc := 285) 0 dL_law_285 (by decide) ?_
              exact J_zret (pc := 286) rfl dL_law_286
          · refine J_ite (fun h_39_3 => ?_) (fun h_39_3 => ?_)
            · refine J_tableIn (pc := 39) 287 dL_law_39 (by rw [h_39_3]; decide) (by rw [h_39_3]; decide) (by rw [h_39_3]; rfl) rfl ?_
              refine J_aload_n (pc := 287) dL_law_287 rfl ?_
              refine J_callV (pc := 288) (n := 0) (b := 20) (vs := []) (ci := 0) (fun l => C_x_words l  M6) (lw_V q401 q402 q403 q116 q404) nmv_X1_words rfl (by omega) (by decide) rfl (fun h => sh_k1 h 0 rfl) rfl (Nat.le_of_ble_eq_true rfl) dL_law_288 (fun v9 M14 => ?_)
              refine J_aload_n (pc := 291) dL_law_291 rfl ?_
              refine J_callV (pc := 292) (n := 0) (b := 72) (vs := []) (ci := 2) (fun l => C_m_words l  M14) (lw_V q1296 q1297 q1298 q118 q1299) nmv_X3_words rfl (by omega) (by decide) rfl (fun h => sh_k1 h 52 rfl) rfl (Nat.le_of_ble_eq_true rfl) dL_law_292 (fun v10 M15 => ?_)
              refine J_icmp_eq (pc := 295) 1534 dL_law_295 rfl (fun h => if_pos h) (fun h => if_neg h) (fun _ => ?_) (fun _ => ?_)
              · exact J_sub (A := [some (.ref 0), some (.ref 20), some (.ref 72), some (.ref 104), some (.int v1), none, none, none]) ⟨rfl, ⟨rfl, ⟨rfl, ⟨rfl, ⟨rfl, trivial⟩⟩⟩⟩⟩ (hj1 M15)
              · refine J_iconst (pc := 298) 0 dL_law_298 (by decide) ?_
                exact J_zret (pc := 299) rfl dL_law_299
            · refine J_ite (fun h_39_4 => ?_) (fun h_39_4 => ?_)
              · refine J_tableIn (pc := 39) 300 dL_law_39 (by rw [h_39_4]; decide) (by rw [h_39_4]; decide) (by rw [h_39_4]; rfl) rfl ?_
                refine J_aload_n (pc := 300) dL_law_300 rfl ?_
                refine J_callV (pc := 301) (n := 0) (b := 20) (vs := []) (ci := 0) (fun l => C_x_travellers l  M6) (lw_V q530 q531 q532 q116 q533) nmv_X1_travellers rfl (by omega) (by decide) rfl (fun h => sh_k1 h 0 rfl) rfl (Nat.le_of_ble_eq_true rfl) dL_law_301 (fun v11 M16 => ?_)
                refine J_aload_n (pc := 304) dL_law_304 rfl ?_
                refine J_callV (pc := 305) (n := 0) (b := 72) (vs := []) (ci := 2) (fun l => C_m_travellers l  M16) (lw_V q1336 q1337 q1338 q118 q1339) nmv_X3_travellers rfl (by omega) (by decide) rfl (fun h => sh_k1 h 52 rfl) rfl (Nat.le_of_ble_eq_true rfl) dL_law_305 (fun v12 M17 => ?_)
                refine J_icmp_eq (pc := 308) 1534 dL_law_308 rfl (fun h => if_pos h) (fun h => if_neg h) (fun _ => ?_) (fun _ => ?_)
                · exact J_sub (A := [some (.ref 0), some (.ref 20), some (.ref 72), some (.ref 104), some (.int v1), none, none, none]) ⟨rfl, ⟨rfl, ⟨rfl, ⟨rfl, ⟨rfl, trivial⟩⟩⟩⟩⟩ (hj1 M17)
                · refine J_iconst (pc := 311) 0 dL_law_311 (by decide) ?_
                  exact J_zret (pc := 312) rfl dL_law_312
              · refine J_ite (fun h_39_5 => ?_) (fun h_39_5 => ?_)
                · refine J_tableIn (pc := 39) 313 dL_law_39 (by rw [h_39_5]; decide) (by rw [h_39_5]; decide) (by rw [h_39_5]; rfl) rfl ?_
                  refine J_aload_n (pc := 313) dL_law_313 rfl ?_
                  refine J_callV (pc := 314) (n := 0) (b := 20) (vs := []) (ci := 0) (fun l => C_x_errands l  M6) (lw_V q552 q553 q554 q116 q555) nmv_X1_errands rfl (by omega) (by decide) rfl (fun h => sh_k1 h 0 rfl) rfl (Nat.le_of_ble_eq_true rfl) dL_law_314 (fun v13 M18 => ?_)
                  refine J_aload_n (pc := 317) dL_law_317 rfl ?_
                  refine J_callV (pc := 318) (n := 0) (b := 72) (vs := []) (ci := 2) (fun l => C_m_errands l  M18) (lw_V q1348 q1349 q1350 q118 q1351) nmv_X3_errands rfl (by omega) (by decide) rfl (fun h => sh_k1 h 52 rfl) rfl (Nat.le_of_ble_eq_true rfl) dL_law_318 (fun v14 M19 => ?_)
                  refine J_icmp_eq (pc := 321) 1534 dL_law_321 rfl (fun h => if_pos h) (fun h => if_neg h) (fun _ => ?_) (fun _ => ?_)
                  · exact J_sub (A := [some (.ref 0), some (.ref 20), some (.ref 72), some (.ref 104), some (.int v1), none, none, none]) ⟨rfl, ⟨rfl, ⟨rfl, ⟨rfl, ⟨rfl, trivial⟩⟩⟩⟩⟩ (hj1 M19)
                  · refine J_iconst (pc := 324) 0 dL_law_324 (by decide) ?_
                    exact J_zret (pc := 325) rfl dL_law_325
                · refine J_ite (fun h_39_6 => ?_) (fun h_39_6 => ?_)
                  · refine J_tableIn (pc := 39) 326 dL_law_39 (by rw [h_39_6]; decide) (by rw [h_39_6]; decide) (by rw [h_39_6]; rfl) rfl ?_
                    refine J_aload_n (pc := 326) dL_law_326 rfl ?_
                    refine J_callV (pc := 327) (n := 0) (b := 20) (vs := []) (ci := 0) (fun l => C_x_rule l  M6) (lw_V q566 q567 q568 q116 q569) nmv_X1_rule rfl (by omega) (by decide) rfl (fun h => sh_k1 h 0 rfl) rfl (Nat.le_of_ble_eq_true rfl) dL_law_327 (fun v15 M20 => ?_)
                    refine J_aload_n (pc := 330) dL_law_330 rfl ?_
                    refine J_callV (pc := 331) (n := 0) (b := 72) (vs := []) (ci := 2) (fun l => C_m_rule l  M20) (lw_V q1352 q1353 q1354 q118 q1355) nmv_X3_rule rfl (by omega) (by decide) rfl (fun h => sh_k1 h 52 rfl) rfl (Nat.le_of_ble_eq_true rfl) dL_law_331 (fun v16 M21 => ?_)
                    refine J_icmp_eq (pc := 334) 1534 dL_law_334 rfl (fun h => if_pos h) (fun h => if_neg h) (fun _ => ?_) (fun _ => ?_)
                    · exact J_sub (A := [some (.ref 0), some (.ref 20), some (.ref 72), some (.ref 104), some (.int v1), none, none, none]) ⟨rfl, ⟨rfl, ⟨rfl, ⟨rfl, ⟨rfl, trivial⟩⟩⟩⟩⟩ (hj1 M21)
                    · refine J_iconst (pc := 337) 0 dL_law_337 (by decide) ?_
                      exact J_zret (pc := 338) rfl dL_law_338
                  · refine J_ite (fun h_39_7 => ?_) (fun h_39_7 => ?_)
                    · refine J_tableIn (pc := 39) 339 dL_law_39 (by rw [h_39_7]; decide) (by rw [h_39_7]; decide) (by rw [h_39_7]; rfl) rfl ?_
                      refine J_aload_n (pc := 339) dL_law_339 rfl ?_
                      refine J_aload_n (pc := 340) dL_law_340 rfl ?_
                      refine J_iload (pc := 341) dL_law_341 rfl ?_
                      refine J_iconst (pc := 343) 1 dL_law_343 (by decide) ?_
                      refine J_iadd (pc := 344) dL_law_344 ?_
                      refine J_ck (fun h11 => ?_)
                      refine J_scld (pc := 345) hsc h11 dL_law_345 ?_
                      refine J_aload_n (pc := 346) dL_law_346 rfl ?_
                      refine J_iload (pc := 347) dL_law_347 rfl ?_
                      refine J_iconst (pc := 349) 2 dL_law_349 (by decide) ?_
                      refine J_iadd (pc := 350) dL_law_350 ?_
                      refine J_ck (fun h12 => ?_)
                      refine J_scld (pc := 351) hsc h12 dL_law_351 ?_
                      refine J_aload_n (pc := 352) dL_law_352 rfl ?_
                      refine J_callSH (pc := 353) (n := 4) (vs := [.ref 20, .int (sx (ix (v1 + 1))), .int (sx (ix (v1 + 2))), .ref 104]) hl9 (fun l hl => C_lw_word l hl (sx (ix (v1 + 1))) (sx (ix (v1 + 2))) M6) (lw_SW q1002 q1003 q115 q1004) nmh_X0_word rfl (by omega) (by decide) rfl (Nat.le_of_ble_eq_true rfl) dL_law_353 (fun v17 M22 => ?_)
                      refine J_istore (pc := 356) dL_law_356 (by decide) ?_
                      refine J_aload_n (pc := 358) dL_law_358 rfl ?_
                      refine J_aload_n (pc := 359) dL_law_359 rfl ?_
                      refine J_iload (pc := 360) dL_law_360 rfl ?_
                      refine J_iconst (pc := 362) 1 dL_law_362 (by decide) ?_
                      refine J_iadd (pc := 363) dL_law_363 ?_
                      refine J_ck (fun h13 => ?_)
                      refine J_scld (pc := 364) hsc h13 dL_law_364 ?_
                      refine J_aload_n (pc := 365) dL_law_365 rfl ?_
                      refine J_iload (pc := 366) dL_law_366 rfl ?_
                      refine J_iconst (pc := 368) 2 dL_law_368 (by decide) ?_
                      refine J_iadd (pc := 369) dL_law_369 ?_
                      refine J_ck (fun h14 => ?_)
                      refine J_scld (pc := 370) hsc h14 dL_law_370 ?_
                      refine J_callV (pc := 371) (n := 2) (b := 72) (vs := [.int (sx (ix (v1 + 1))), .int (sx (ix (v1 + 2)))]) (ci := 2) (fun l => C_m_word l (sx (ix (v1 + 1))) (sx (ix (v1 + 2))) M22) (lw_V q1379 q1380 q1381 q118 q1382) nmv_X3_word rfl (by omega) (by decide) rfl (fun h => sh_k1 h 52 rfl) rfl (Nat.le_of_ble_eq_true rfl) dL_law_371 (fun v18 M23 => ?_)
                      refine J_istore (pc := 374) dL_law_374 (by decide) ?_
                      refine J_aload_n (pc := 376) dL_law_376 rfl ?_
                      refine J_callV (pc := 377) (n := 0) (b := 72) (vs := []) (ci := 2) (fun l => C_m_thrown l  M23) (lw_V q1277 q1278 q1279 q118 q1280) nmv_X3_thrown rfl (by omega) (by decide) rfl (fun h => sh_k1 h 52 rfl) rfl (Nat.le_of_ble_eq_true rfl) dL_law_377 (fun v19 M24 => ?_)
                      refine J_iload (pc := 380) dL_law_380 rfl ?_
                      refine J_icmp_eq (pc := 382) 387 dL_law_382 rfl (fun h => if_pos h) (fun h => if_neg h) (fun _ => ?_) (fun _ => ?_)
                      · refine J_iload (pc := 387) dL_law_387 rfl ?_
                        refine J_if_ne (pc := 389) 404 dL_law_389 rfl (fun h => if_neg h) (fun h => if_pos h) (fun _ => ?_) (fun _ => ?_)
                        · refine J_goto (pc := 404) 1534 dL_law_404 rfl ?_
                          exact J_sub (A := [some (.ref 0), some (.ref 20), some (.ref 72), some (.ref 104), some (.int v1), none, none, none]) ⟨rfl, ⟨rfl, ⟨rfl, ⟨rfl, ⟨rfl, trivial⟩⟩⟩⟩⟩ (hj1 M24)
                        · refine J_aload_n (pc := 392) dL_law_392 rfl ?_
                          refine J_iconst (pc := 393) 0 dL_law_393 (by decide) ?_
                          refine J_ck (fun h15 => ?_)
                          refine J_lald (pc := 394) (a := 104) (fun h => sh_a h 84 rfl h15) dL_law_394 ?_
                          refine J_iload (pc := 395) dL_law_395 rfl ?_
                          refine J_i2l (pc := 397) dL_law_397 ?_
                          refine J_lcmp (pc := 398) dL_law_398 ?_
                          refine J_if_eq (pc := 399) 404 dL_law_399 rfl (fun h => if_pos h) (fun h => if_neg h) (fun _ => ?_) (fun _ => ?_)
                          · refine J_goto (pc := 404) 1534 dL_law_404 rfl ?_
                            exact J_sub (A := [some (.ref 0), some (.ref 20), some (.ref 72), some (.ref 104), some (.int v1), none, none, none]) ⟨rfl, ⟨rfl, ⟨rfl, ⟨rfl, ⟨rfl, trivial⟩⟩⟩⟩⟩ (hj1 M24)
                          · refine J_iconst (pc := 402) 0 dL_law_402 (by decide) ?_
                            exact J_zret (pc := 403) rfl dL_law_403
                      · refine J_iconst (pc := 385) 0 dL_law_385 (by decide) ?_
                        exact J_zret (pc := 386) rfl dL_law_386
                    · refine J_ite (fun h_39_8 => ?_) (fun h_39_8 => ?_)
                      · refine J_tableIn (pc := 39) 407 dL_law_39 (by rw [h_39_8]; decide) (by rw [h_39_8]; decide) (by rw [h_39_8]; rfl) rfl ?_
                        refine J_aload_n (pc := 407) dL_law_407 rfl ?_
                        refine J_aload_n (pc := 408) dL_law_408 rfl ?_
                        refine J_iload (pc := 409) dL_law_409 rfl ?_
                        refine J_iconst (pc := 411) 1 dL_law_411 (by decide) ?_
                        refine J_iadd (pc := 412) dL_law_412 ?_
                        refine J_ck (fun h16 => ?_)
                        refine J_scld (pc := 413) hsc h16 dL_law_413 ?_
                        refine J_aload_n (pc := 414) dL_law_414 rfl ?_
                        refine J_iload (pc := 415) dL_law_415 rfl ?_
                        refine J_iconst (pc := 417) 2 dL_law_417 (by decide) ?_
                        refine J_iadd (pc := 418) dL_law_418 ?_
                        refine J_ck (fun h17 => ?_)
                        refine J_scld (pc := 419) hsc h17 dL_law_419 ?_
                        refine J_aload_n (pc := 420) dL_law_420 rfl ?_
                        refine J_callSH (pc := 421) (n := 4) (vs := [.ref 20, .int (sx (ix (v1 + 1))), .int (sx (ix (v1 + 2))), .ref 104]) hl9 (fun l hl => C_lw_traveller l hl (sx (ix (v1 + 1))) (sx (ix (v1 + 2))) M6) (lw_SW q1072 q1073 q115 q1074) nmh_X0_traveller rfl (by omega) (by decide) rfl (Nat.le_of_ble_eq_true rfl) dL_law_421 (fun v20 M25 => ?_)
                        refine J_istore (pc := 424) dL_law_424 (by decide) ?_
                        refine J_aload_n (pc := 426) dL_law_426 rfl ?_
                        refine J_aload_n (pc := 427) dL_law_427 rfl ?_
                        refine J_iload (pc := 428) dL_law_428 rfl ?_
                        refine J_iconst (pc := 430) 1 dL_law_430 (by decide) ?_
                        refine J_iadd (pc := 431) dL_law_431 ?_
                        refine J_ck (fun h18 => ?_)
                        refine J_scld (pc := 432) hsc h18 dL_law_432 ?_
                        refine J_aload_n (pc := 433) dL_law_433 rfl ?_
                        refine J_iload (pc := 434) dL_law_434 rfl ?_
                        refine J_iconst (pc := 436) 2 dL_law_436 (by decide) ?_
                        refine J_iadd (pc := 437) dL_law_437 ?_
                        refine J_ck (fun h19 => ?_)
                        refine J_scld (pc := 438) hsc h19 dL_law_438 ?_
                        refine J_callV (pc := 439) (n := 2) (b := 72) (vs := [.int (sx (ix (v1 + 1))), .int (sx (ix (v1 + 2)))]) (ci := 2) (fun l => C_m_traveller l (sx (ix (v1 + 1))) (sx (ix (v1 + 2))) M25) (lw_V q1406 q1407 q1408 q118 q1409) nmv_X3_traveller rfl (by omega) (by decide) rfl (fun h => sh_k1 h 52 rfl) rfl (Nat.le_of_ble_eq_true rfl) dL_law_439 (fun v21 M26 => ?_)
                        refine J_istore (pc := 442) dL_law_442 (by decide) ?_
                        refine J_aload_n (pc := 444) dL_law_444 rfl ?_
                        refine J_callV (pc := 445) (n := 0) (b := 72) (vs := []) (ci := 2) (fun l => C_m_thrown l  M26) (lw_V q1277 q1278 q1279 q118 q1280) nmv_X3_thrown rfl (by omega) (by decide) rfl (fun h => sh_k1 h 52 rfl) rfl (Nat.le_of_ble_eq_true rfl) dL_law_445 (fun v22 M27 => ?_)
                        refine J_iload (pc := 448) dL_law_448 rfl ?_
                        refine J_icmp_eq (pc := 450) 455 dL_law_450 rfl (fun h => if_pos h) (fun h => if_neg h) (fun _ => ?_) (fun _ => ?_)
                        · refine J_iload (pc := 455) dL_law_455 rfl ?_
                          refine J_if_ne (pc := 457) 472 dL_law_457 rfl (fun h => if_neg h) (fun h => if_pos h) (fun _ => ?_) (fun _ => ?_)
                          · refine J_goto (pc := 472) 1534 dL_law_472 rfl ?_
                            exact J_sub (A := [some (.ref 0), some (.ref 20), some (.ref 72), some (.ref 104), some (.int v1), none, none, none]) ⟨rfl, ⟨rfl, ⟨rfl, ⟨rfl, ⟨rfl, trivial⟩⟩⟩⟩⟩ (hj1 M27)
                          · refine J_aload_n (pc := 460) dL_law_460 rfl ?_
                            refine J_iconst (pc := 461) 0 dL_law_461 (by decide) ?_
                            refine J_ck (fun h20 => ?_)
                            refine J_lald (pc := 462) (a := 104) (fun h => sh_a h 84 rfl h20) dL_law_462 ?_
                            refine J_iload (pc := 463) dL_law_463 rfl ?_
                            refine J_i2l (pc := 465) dL_law_465 ?_
                            refine J_lcmp (pc := 466) dL_law_466 ?_
                            refine J_if_eq (pc := 467) 472 dL_law_467 rfl (fun h => if_pos h) (fun h => if_neg h) (fun _ => ?_) (fun _ => ?_)
                            · refine J_goto (pc := 472) 1534 dL_law_472 rfl ?_
                              exact J_sub (A := [some (.ref 0), some (.ref 20), some (.ref 72), some (.ref 104), some (.int v1), none, none, none]) ⟨rfl, ⟨rfl, ⟨rfl, ⟨rfl, ⟨rfl, trivial⟩⟩⟩⟩⟩ (hj1 M27)
                            · refine J_iconst (pc := 470) 0 dL_law_470 (by decide) ?_
                              exact J_zret (pc := 471) rfl dL_law_471
                        · refine J_iconst (pc := 453) 0 dL_law_453 (by decide) ?_
                          exact J_zret (pc := 454) rfl dL_law_454
                      · refine J_ite (fun h_39_9 => ?_) (fun h_39_9 => ?_)
                        · refine J_tableIn (pc := 39) 475 dL_law_39 (by rw [h_39_9]; decide) (by rw [h_39_9]; decide) (by rw [h_39_9]; rfl) rfl ?_
                          refine J_aload_n (pc := 475) dL_law_475 rfl ?_
                          refine J_aload_n (pc := 476) dL_law_476 rfl ?_
                          refine J_iload (pc := 477) dL_law_477 rfl ?_
                          refine J_iconst (pc := 479) 1 dL_law_479 (by decide) ?_
                          refine J_iadd (pc := 480) dL_law_480 ?_
                          refine J_ck (fun h21 => ?_)
                          refine J_scld (pc := 481) hsc h21 dL_law_481 ?_
                          refine J_aload_n (pc := 482) dL_law_482 rfl ?_
                          refine J_iload (pc := 483) dL_law_483 rfl ?_
                          refine J_iconst (pc := 485) 2 dL_law_485 (by decide) ?_
                          refine J_iadd (pc := 486) dL_law_486 ?_
                          refine J_ck (fun h22 => ?_)
                          refine J_scld (pc := 487) hsc h22 dL_law_487 ?_
                          refine J_aload_n (pc := 488) dL_law_488 rfl ?_
                          refine J_callSH (pc := 489) (n := 4) (vs := [.ref 20, .int (sx (ix (v1 + 1))), .int (sx (ix (v1 + 2))), .ref 104]) hl9 (fun l hl => C_lw_errand l hl (sx (ix (v1 + 1))) (sx (ix (v1 + 2))) M6) (lw_SW q1079 q1080 q115 q1081) nmh_X0_errand rfl (by omega) (by decide) rfl (Nat.le_of_ble_eq_true rfl) dL_law_489 (fun v23 M28 => ?_)
                          refine J_istore (pc := 492) dL_law_492 (by decide) ?_
                          refine J_aload_n (pc := 494) dL_law_494 rfl ?_
                          refine J_aload_n (pc := 495) dL_law_495 rfl ?_
                          refine J_iload (pc := 496) dL_law_496 rfl ?_
                          refine J_iconst (pc := 498) 1 dL_law_498 (by decide) ?_
                          refine J_iadd (pc := 499) dL_law_499 ?_
                          refine J_ck (fun h23 => ?_)
                          refine J_scld (pc := 500) hsc h23 dL_law_500 ?_
                          refine J_aload_n (pc := 501) dL_law_501 rfl ?_
                          refine J_iload (pc := 502) dL_law_502 rfl ?_
                          refine J_iconst (pc := 504) 2 dL_law_504 (by decide) ?_
                          refine J_iadd (pc := 505) dL_law_505 ?_
                          refine J_ck (fun h24 => ?_)
                          refine J_scld (pc := 506) hsc h24 dL_law_506 ?_
                          refine J_callV (pc := 507) (n := 2) (b := 72) (vs := [.int (sx (ix (v1 + 1))), .int (sx (ix (v1 + 2)))]) (ci := 2) (fun l => C_m_errand l (sx (ix (v1 + 1))) (sx (ix (v1 + 2))) M28) (lw_V q1425 q1426 q1427 q118 q1428) nmv_X3_errand rfl (by omega) (by decide) rfl (fun h => sh_k1 h 52 rfl) rfl (Nat.le_of_ble_eq_true rfl) dL_law_507 (fun v24 M29 => ?_)
                          refine J_istore (pc := 510) dL_law_510 (by decide) ?_
                          refine J_aload_n (pc := 512) dL_law_512 rfl ?_
                          refine J_callV (pc := 513) (n := 0) (b := 72) (vs := []) (ci := 2) (fun l => C_m_thrown l  M29) (lw_V q1277 q1278 q1279 q118 q1280) nmv_X3_thrown rfl (by omega) (by decide) rfl (fun h => sh_k1 h 52 rfl) rfl (Nat.le_of_ble_eq_true rfl) dL_law_513 (fun v25 M30 => ?_)
                          refine J_iload (pc := 516) dL_law_516 rfl ?_
                          refine J_icmp_eq (pc := 518) 523 dL_law_518 rfl (fun h => if_pos h) (fun h => if_neg h) (fun _ => ?_) (fun _ => ?_)
                          · refine J_iload (pc := 523) dL_law_523 rfl ?_
                            refine J_if_ne (pc := 525) 540 dL_law_525 rfl (fun h => if_neg h) (fun h => if_pos h) (fun _ => ?_) (fun _ => ?_)
                            · refine J_goto (pc := 540) 1534 dL_law_540 rfl ?_
                              exact J_sub (A := [some (.ref 0), some (.ref 20), some (.ref 72), some (.ref 104), some (.int v1), none, none, none]) ⟨rfl, ⟨rfl, ⟨rfl, ⟨rfl, ⟨rfl, trivial⟩⟩⟩⟩⟩ (hj1 M30)
                            · refine J_aload_n (pc := 528) dL_law_528 rfl ?_
                              refine J_iconst (pc := 529) 0 dL_law_529 (by decide) ?_
                              refine J_ck (fun h25 => ?_)
                              refine J_lald (pc := 530) (a := 104) (fun h => sh_a h 84 rfl h25) dL_law_530 ?_
                              refine J_iload (pc := 531) dL_law_531 rfl ?_
                              refine J_i2l (pc := 533) dL_law_533 ?_
                              refine J_lcmp (pc := 534) dL_law_534 ?_
                              refine J_if_eq (pc := 535) 540 dL_law_535 rfl (fun h => if_pos h) (fun h => if_neg h) (fun _ => ?_) (fun _ => ?_)
                              · refine J_goto (pc := 540) 1534 dL_law_540 rfl ?_
                                exact J_sub (A := [some (.ref 0), some (.ref 20), some (.ref 72), some (.ref 104), some (.int v1), none, none, none]) ⟨rfl, ⟨rfl, ⟨rfl, ⟨rfl, ⟨rfl, trivial⟩⟩⟩⟩⟩ (hj1 M30)
                              · refine J_iconst (pc := 538) 0 dL_law_538 (by decide) ?_
                                exact J_zret (pc := 539) rfl dL_law_539
                          · refine J_iconst (pc := 521) 0 dL_law_521 (by decide) ?_
                            exact J_zret (pc := 522) rfl dL_law_522
                        · refine J_ite (fun h_39_10 => ?_) (fun h_39_10 => ?_)
                          · refine J_tableIn (pc := 39) 543 dL_law_39 (by rw [h_39_10]; decide) (by rw [h_39_10]; decide) (by rw [h_39_10]; rfl) rfl ?_
                            refine J_aload_n (pc := 543) dL_law_543 rfl ?_
                            refine J_aload_n (pc := 544) dL_law_544 rfl ?_
                            refine J_iload (pc := 545) dL_law_545 rfl ?_
                            refine J_iconst (pc := 547) 1 dL_law_547 (by decide) ?_
                            refine J_iadd (pc := 548) dL_law_548 ?_
                            refine J_ck (fun h26 => ?_)
                            refine J_scld (pc := 549) hsc h26 dL_law_549 ?_
                            refine J_aload_n (pc := 550) dL_law_550 rfl ?_
                            refine J_iload (pc := 551) dL_law_551 rfl ?_
                            refine J_iconst (pc := 553) 2 dL_law_553 (by decide) ?_
                            refine J_iadd (pc := 554) dL_law_554 ?_
                            refine J_ck (fun h27 => ?_)
                            refine J_scld (pc := 555) hsc h27 dL_law_555 ?_
                            refine J_aload_n (pc := 556) dL_law_556 rfl ?_
                            refine J_callSH (pc := 557) (n := 4) (vs := [.ref 20, .int (sx (ix (v1 + 1))), .int (sx (ix (v1 + 2))), .ref 104]) hl9 (fun l hl => C_lw_book l hl (sx (ix (v1 + 1))) (sx (ix (v1 + 2))) M6) (lw_SW q1086 q1087 q115 q1088) nmh_X0_book rfl (by omega) (by decide) rfl (Nat.le_of_ble_eq_true rfl) dL_law_557 (fun v26 M31 => ?_)
                            refine J_istore (pc := 560) dL_law_560 (by decide) ?_
                            refine J_aload_n (pc := 562) dL_law_562 rfl ?_
                            refine J_aload_n (pc := 563) dL_law_563 rfl ?_
                            refine J_iload (pc := 564) dL_law_564 rfl ?_
                            refine J_iconst (pc := 566) 1 dL_law_566 (by decide) ?_
                            refine J_iadd (pc := 567) dL_law_567 ?_
                            refine J_ck (fun h28 => ?_)
                            refine J_scld (pc := 568) hsc h28 dL_law_568 ?_
                            refine J_aload_n (pc := 569) dL_law_569 rfl ?_
                            refine J_iload (pc := 570) dL_law_570 rfl ?_
                            refine J_iconst (pc := 572) 2 dL_law_572 (by decide) ?_
                            refine J_iadd (pc := 573) dL_law_573 ?_
                            refine J_ck (fun h29 => ?_)
                            refine J_scld (pc := 574) hsc h29 dL_law_574 ?_
                            refine J_callV (pc := 575) (n := 2) (b := 72) (vs := [.int (sx (ix (v1 + 1))), .int (sx (ix (v1 + 2)))]) (ci := 2) (fun l => C_m_book l (sx (ix (v1 + 1))) (sx (ix (v1 + 2))) M31) (lw_V q1429 q1430 q1431 q118 q1432) nmv_X3_book rfl (by omega) (by decide) rfl (fun h => sh_k1 h 52 rfl) rfl (Nat.le_of_ble_eq_true rfl) dL_law_575 (fun v27 M32 => ?_)
                            refine J_istore (pc := 578) dL_law_578 (by decide) ?_
                            refine J_aload_n (pc := 580) dL_law_580 rfl ?_
                            refine J_callV (pc := 581) (n := 0) (b := 72) (vs := []) (ci := 2) (fun l => C_m_thrown l  M32) (lw_V q1277 q1278 q1279 q118 q1280) nmv_X3_thrown rfl (by omega) (by decide) rfl (fun h => sh_k1 h 52 rfl) rfl (Nat.le_of_ble_eq_true rfl) dL_law_581 (fun v28 M33 => ?_)
                            refine J_iload (pc := 584) dL_law_584 rfl ?_
                            refine J_icmp_eq (pc := 586) 591 dL_law_586 rfl (fun h => if_pos h) (fun h => if_neg h) (fun _ => ?_) (fun _ => ?_)
                            · refine J_iload (pc := 591) dL_law_591 rfl ?_
                              refine J_if_ne (pc := 593) 608 dL_law_593 rfl (fun h => if_neg h) (fun h => if_pos h) (fun _ => ?_) (fun _ => ?_)
                              · refine J_goto (pc := 608) 1534 dL_law_608 rfl ?_
                                exact J_sub (A := [some (.ref 0), some (.ref 20), some (.ref 72), some (.ref 104), some (.int v1), none, none, none]) ⟨rfl, ⟨rfl, ⟨rfl, ⟨rfl, ⟨rfl, trivial⟩⟩⟩⟩⟩ (hj1 M33)
                              · refine J_aload_n (pc := 596) dL_law_596 rfl ?_
                                refine J_iconst (pc := 597) 0 dL_law_597 (by decide) ?_
                                refine J_ck (fun h30 => ?_)
                                refine J_lald (pc := 598) (a := 104) (fun h => sh_a h 84 rfl h30) dL_law_598 ?_
                                refine J_iload (pc := 599) dL_law_599 rfl ?_
                                refine J_i2l (pc := 601) dL_law_601 ?_
                                refine J_lcmp (pc := 602) dL_law_602 ?_
                                refine J_if_eq (pc := 603) 608 dL_law_603 rfl (fun h => if_pos h) (fun h => if_neg h) (fun _ => ?_) (fun _ => ?_)
                                · refine J_goto (pc := 608) 1534 dL_law_608 rfl ?_
                                  exact J_sub (A := [some (.ref 0), some (.ref 20), some (.ref 72), some (.ref 104), some (.int v1), none, none, none]) ⟨rfl, ⟨rfl, ⟨rfl, ⟨rfl, ⟨rfl, trivial⟩⟩⟩⟩⟩ (hj1 M33)
                                · refine J_iconst (pc := 606) 0 dL_law_606 (by decide) ?_
                                  exact J_zret (pc := 607) rfl dL_law_607
                            · refine J_iconst (pc := 589) 0 dL_law_589 (by decide) ?_
                              exact J_zret (pc := 590) rfl dL_law_590
                          · refine J_ite (fun h_39_11 => ?_) (fun h_39_11 => ?_)
                            · refine J_tableIn (pc := 39) 611 dL_law_39 (by rw [h_39_11]; decide) (by rw [h_39_11]; decide) (by rw [h_39_11]; rfl) rfl ?_
                              refine J_aload_n (pc := 611) dL_law_611 rfl ?_
                              refine J_aload_n (pc := 612) dL_law_612 rfl ?_
                              refine J_iload (pc := 613) dL_law_613 rfl ?_
                              refine J_iconst (pc := 615) 1 dL_law_615 (by decide) ?_
                              refine J_iadd (pc := 616) dL_law_616 ?_
                              refine J_ck (fun h31 => ?_)
                              refine J_scld (pc := 617) hsc h31 dL_law_617 ?_
                              refine J_aload_n (pc := 618) dL_law_618 rfl ?_
                              refine J_iload (pc := 619) dL_law_619 rfl ?_
                              refine J_iconst (pc := 621) 2 dL_law_621 (by decide) ?_
                              refine J_iadd (pc := 622) dL_law_622 ?_
                              refine J_ck (fun h32 => ?_)
                              refine J_scld (pc := 623) hsc h32 dL_law_623 ?_
                              refine J_aload_n (pc := 624) dL_law_624 rfl ?_
                              refine J_iload (pc := 625) dL_law_625 rfl ?_
                              refine J_iconst (pc := 627) 3 dL_law_627 (by decide) ?_
                              refine J_iadd (pc := 628) dL_law_628 ?_
                              refine J_ck (fun h33 => ?_)
                              refine J_scld (pc := 629) hsc h33 dL_law_629 ?_
                              refine J_aload_n (pc := 630) dL_law_630 rfl ?_
                              refine J_iload (pc := 631) dL_law_631 rfl ?_
                              refine J_iconst (pc := 633) 4 dL_law_633 (by decide) ?_
                              refine J_iadd (pc := 634) dL_law_634 ?_
                              refine J_ck (fun h34 => ?_)
                              refine J_scld (pc := 635) hsc h34 dL_law_635 ?_
                              refine J_callV (pc := 636) (n := 4) (b := 20) (vs := [.int (sx (ix (v1 + 1))), .int (sx (ix (v1 + 2))), .int (sx (ix (v1 + 3))), .int (sx (ix (v1 + 4)))]) (ci := 0) (fun l => C_x_sheet l (sx (ix (v1 + 1))) (sx (ix (v1 + 2))) (sx (ix (v1 + 3))) (sx (ix (v1 + 4))) M6) (lw_V q656 q657 q658 q116 q659) nmv_X1_sheet rfl (by omega) (by decide) rfl (fun h => sh_k1 h 0 rfl) rfl (Nat.le_of_ble_eq_true rfl) dL_law_636 (fun v29 M34 => ?_)
                              refine J_aload_n (pc := 639) dL_law_639 rfl ?_
                              refine J_aload_n (pc := 640) dL_law_640 rfl ?_
                              refine J_iload (pc := 641) dL_law_641 rfl ?_
                              refine J_iconst (pc := 643) 1 dL_law_643 (by decide) ?_
                              refine J_iadd (pc := 644) dL_law_644 ?_
                              refine J_ck (fun h35 => ?_)
                              refine J_scld (pc := 645) hsc h35 dL_law_645 ?_
                              refine J_aload_n (pc := 646) dL_law_646 rfl ?_
                              refine J_iload (pc := 647) dL_law_647 rfl ?_
                              refine J_iconst (pc := 649) 2 dL_law_649 (by decide) ?_
                              refine J_iadd (pc := 650) dL_law_650 ?_
                              refine J_ck (fun h36 => ?_)
                              refine J_scld (pc := 651) hsc h36 dL_law_651 ?_
                              refine J_aload_n (pc := 652) dL_law_652 rfl ?_
                              refine J_iload (pc := 653) dL_law_653 rfl ?_
                              refine J_iconst (pc := 655) 3 dL_law_655 (by decide) ?_
                              refine J_iadd (pc := 656) dL_law_656 ?_
                              refine J_ck (fun h37 => ?_)
                              refine J_scld (pc := 657) hsc h37 dL_law_657 ?_
                              refine J_aload_n (pc := 658) dL_law_658 rfl ?_
                              refine J_iload (pc := 659) dL_law_659 rfl ?_
                              refine J_iconst (pc := 661) 4 dL_law_661 (by decide) ?_
                              refine J_iadd (pc := 662) dL_law_662 ?_
                              refine J_ck (fun h38 => ?_)
                              refine J_scld (pc := 663) hsc h38 dL_law_663 ?_
                              refine J_callV (pc := 664) (n := 4) (b := 72) (vs := [.int (sx (ix (v1 + 1))), .int (sx (ix (v1 + 2))), .int (sx (ix (v1 + 3))), .int (sx (ix (v1 + 4)))]) (ci := 2) (fun l => C_m_sheet l (sx (ix (v1 + 1))) (sx (ix (v1 + 2))) (sx (ix (v1 + 3))) (sx (ix (v1 + 4))) M34) (lw_V q1437 q1438 q1439 q118 q1440) nmv_X3_sheet rfl (by omega) (by decide) rfl (fun h => sh_k1 h 52 rfl) rfl (Nat.le_of_ble_eq_true rfl) dL_law_664 (fun v30 M35 => ?_)
                              refine J_icmp_eq (pc := 667) 1534 dL_law_667 rfl (fun h => if_pos h) (fun h => if_neg h) (fun _ => ?_) (fun _ => ?_)
                              · exact J_sub (A := [some (.ref 0), some (.ref 20), some (.ref 72), some (.ref 104), some (.int v1), none, none, none]) ⟨rfl, ⟨rfl, ⟨rfl, ⟨rfl, ⟨rfl, trivial⟩⟩⟩⟩⟩ (hj1 M35)
                              · refine J_iconst (pc := 670) 0 dL_law_670 (by decide) ?_
                                exact J_zret (pc := 671) rfl dL_law_671
                            · refine J_ite (fun h_39_12 => ?_) (fun h_39_12 => ?_)
                              · refine J_tableIn (pc := 39) 672 dL_law_39 (by rw [h_39_12]; decide) (by rw [h_39_12]; decide) (by rw [h_39_12]; rfl) rfl ?_
                                refine J_aload_n (pc := 672) dL_law_672 rfl ?_
                                refine J_aload_n (pc := 673) dL_law_673 rfl ?_
                                refine J_iload (pc := 674) dL_law_674 rfl ?_
                                refine J_iconst (pc := 676) 1 dL_law_676 (by decide) ?_
                                refine J_iadd (pc := 677) dL_law_677 ?_
                                refine J_ck (fun h39 => ?_)
                                refine J_scld (pc := 678) hsc h39 dL_law_678 ?_
                                refine J_aload_n (pc := 679) dL_law_679 rfl ?_
                                refine J_iload (pc := 680) dL_law_680 rfl ?_
                                refine J_iconst (pc := 682) 2 dL_law_682 (by decide) ?_
                                refine J_iadd (pc := 683) dL_law_683 ?_
                                refine J_ck (fun h40 => ?_)
                                refine J_scld (pc := 684) hsc h40 dL_law_684 ?_
                                refine J_callV (pc := 685) (n := 2) (b := 20) (vs := [.int (sx (ix (v1 + 1))), .int (sx (ix (v1 + 2)))]) (ci := 0) (fun l => C_x_toll l (sx (ix (v1 + 1))) (sx (ix (v1 + 2))) M6) (lw_V q670 q671 q672 q116 q673) nmv_X1_toll rfl (by omega) (by decide) rfl (fun h => sh_k1 h 0 rfl) rfl (Nat.le_of_ble_eq_true rfl) dL_law_685 (fun v31 M36 => ?_)
                                refine J_aload_n (pc := 688) dL_law_688 rfl ?_
                                refine J_aload_n (pc := 689) dL_law_689 rfl ?_
                                refine J_iload (pc := 690) dL_law_690 rfl ?_
                                refine J_iconst (pc := 692) 1 dL_law_692 (by decide) ?_
                                refine J_iadd (pc := 693) dL_law_693 ?_
                                refine J_ck (fun h41 => ?_)
                                refine J_scld (pc := 694) hsc h41 dL_law_694 ?_
                                refine J_aload_n (pc := 695) dL_law_695 rfl ?_
                                refine J_iload (pc := 696) dL_law_696 rfl ?_
                                refine J_iconst (pc := 698) 2 dL_law_698 (by decide) ?_
                                refine J_iadd (pc := 699) dL_law_699 ?_
                                refine J_ck (fun h42 => ?_)
                                refine J_scld (pc := 700) hsc h42 dL_law_700 ?_
                                refine J_callV (pc := 701) (n := 2) (b := 72) (vs := [.int (sx (ix (v1 + 1))), .int (sx (ix (v1 + 2)))]) (ci := 2) (fun l => C_m_toll l (sx (ix (v1 + 1))) (sx (ix (v1 + 2))) M36) (lw_V q1443 q1444 q1445 q118 q1446) nmv_X3_toll rfl (by omega) (by decide) rfl (fun h => sh_k1 h 52 rfl) rfl (Nat.le_of_ble_eq_true rfl) dL_law_701 (fun v32 M37 => ?_)
                                refine J_icmp_eq (pc := 704) 1534 dL_law_704 rfl (fun h => if_pos h) (fun h => if_neg h) (fun _ => ?_) (fun _ => ?_)
                                · exact J_sub (A := [some (.ref 0), some (.ref 20), some (.ref 72), some (.ref 104), some (.int v1), none, none, none]) ⟨rfl, ⟨rfl, ⟨rfl, ⟨rfl, ⟨rfl, trivial⟩⟩⟩⟩⟩ (hj1 M37)
                                · refine J_iconst (pc := 707) 0 dL_law_707 (by decide) ?_
                                  exact J_zret (pc := 708) rfl dL_law_708
                              · refine J_ite (fun h_39_13 => ?_) (fun h_39_13 => ?_)
                                · refine J_tableIn (pc := 39) 709 dL_law_39 (by rw [h_39_13]; decide) (by rw [h_39_13]; decide) (by rw [h_39_13]; rfl) rfl ?_
                                  refine J_aload_n (pc := 709) dL_law_709 rfl ?_
                                  refine J_aload_n (pc := 710) dL_law_710 rfl ?_
                                  refine J_iload (pc := 711) dL_law_711 rfl ?_
                                  refine J_iconst (pc := 713) 1 dL_law_713 (by decide) ?_
                                  refine J_iadd (pc := 714) dL_law_714 ?_
                                  refine J_ck (fun h43 => ?_)
                                  refine J_scld (pc := 715) hsc h43 dL_law_715 ?_
                                  refine J_aload_n (pc := 716) dL_law_716 rfl ?_
                                  refine J_iload (pc := 717) dL_law_717 rfl ?_
                                  refine J_iconst (pc := 719) 2 dL_law_719 (by decide) ?_
                                  refine J_iadd (pc := 720) dL_law_720 ?_
                                  refine J_ck (fun h44 => ?_)
                                  refine J_scld (pc := 721) hsc h44 dL_law_721 ?_
                                  refine J_callV (pc := 722) (n := 2) (b := 20) (vs := [.int (sx (ix (v1 + 1))), .int (sx (ix (v1 + 2)))]) (ci := 0) (fun l => C_x_walk l (sx (ix (v1 + 1))) (sx (ix (v1 + 2))) M6) (lw_V q712 q713 q714 q116 q715) nmv_X1_walk rfl (by omega) (by decide) rfl (fun h => sh_k1 h 0 rfl) rfl (Nat.le_of_ble_eq_true rfl) dL_law_722 (fun v33 M38 => ?_)
                                  refine J_aload_n (pc := 725) dL_law_725 rfl ?_
                                  refine J_aload_n (pc := 726) dL_law_726 rfl ?_
                                  refine J_iload (pc := 727) dL_law_727 rfl ?_
                                  refine J_iconst (pc := 729) 1 dL_law_729 (by decide) ?_
                                  refine J_iadd (pc := 730) dL_law_730 ?_
                                  refine J_ck (fun h45 => ?_)
                                  refine J_scld (pc := 731) hsc h45 dL_law_731 ?_
                                  refine J_aload_n (pc := 732) dL_law_732 rfl ?_
                                  refine J_iload (pc := 733) dL_law_733 rfl ?_
                                  refine J_iconst (pc := 735) 2 dL_law_735 (by decide) ?_
                                  refine J_iadd (pc := 736) dL_law_736 ?_
                                  refine J_ck (fun h46 => ?_)
                                  refine J_scld (pc := 737) hsc h46 dL_law_737 ?_
                                  refine J_callV (pc := 738) (n := 2) (b := 72) (vs := [.int (sx (ix (v1 + 1))), .int (sx (ix (v1 + 2)))]) (ci := 2) (fun l => C_m_walk l (sx (ix (v1 + 1))) (sx (ix (v1 + 2))) M38) (lw_V q1459 q1460 q1461 q118 q1462) nmv_X3_walk rfl (by omega) (by decide) rfl (fun h => sh_k1 h 52 rfl) rfl (Nat.le_of_ble_eq_true rfl) dL_law_738 (fun v34 M39 => ?_)
                                  refine J_icmp_eq (pc := 741) 1534 dL_law_741 rfl (fun h => if_pos h) (fun h => if_neg h) (fun _ => ?_) (fun _ => ?_)
                                  · exact J_sub (A := [some (.ref 0), some (.ref 20), some (.ref 72), some (.ref 104), some (.int v1), none, none, none]) ⟨rfl, ⟨rfl, ⟨rfl, ⟨rfl, ⟨rfl, trivial⟩⟩⟩⟩⟩ (hj1 M39)
                                  · refine J_iconst (pc := 744) 0 dL_law_744 (by decide) ?_
                                    exact J_zret (pc := 745) rfl dL_law_745
                                · refine J_ite (fun h_39_14 => ?_) (fun h_39_14 => ?_)
                                  · refine J_tableIn (pc := 39) 746 dL_law_39 (by rw [h_39_14]; decide) (by rw [h_39_14]; decide) (by rw [h_39_14]; rfl) rfl ?_
                                    refine J_aload_n (pc := 746) dL_law_746 rfl ?_
                                    refine J_aload_n (pc := 747) dL_law_747 rfl ?_
                                    refine J_iload (pc := 748) dL_law_748 rfl ?_
                                    refine J_iconst (pc := 750) 1 dL_law_750 (by decide) ?_
                                    refine J_iadd (pc := 751) dL_law_751 ?_
                                    refine J_ck (fun h47 => ?_)
                                    refine J_scld (pc := 752) hsc h47 dL_law_752 ?_
                                    refine J_callV (pc := 753) (n := 1) (b := 20) (vs := [.int (sx (ix (v1 + 1)))]) (ci := 0) (fun l => C_x_pause l (sx (ix (v1 + 1))) M6) (lw_V q732 q733 q734 q116 q735) nmv_X1_pause rfl (by omega) (by decide) rfl (fun h => sh_k1 h 0 rfl) rfl (Nat.le_of_ble_eq_true rfl) dL_law_753 (fun v35 M40 => ?_)
                                    refine J_aload_n (pc := 756) dL_law_756 rfl ?_
                                    refine J_aload_n (pc := 757) dL_law_757 rfl ?_
                                    refine J_iload (pc := 758) dL_law_758 rfl ?_
                                    refine J_iconst (pc := 760) 1 dL_law_760 (by decide) ?_
                                    refine J_iadd (pc := 761) dL_law_761 ?_
                                    refine J_ck (fun h48 => ?_)
                                    refine J_scld (pc := 762) hsc h48 dL_law_762 ?_
                                    refine J_callV (pc := 763) (n := 1) (b := 72) (vs := [.int (sx (ix (v1 + 1)))]) (ci := 2) (fun l => C_m_pause l (sx (ix (v1 + 1))) M40) (lw_V q1477 q1478 q1479 q118 q1480) nmv_X3_pause rfl (by omega) (by decide) rfl (fun h => sh_k1 h 52 rfl) rfl (Nat.le_of_ble_eq_true rfl) dL_law_763 (fun v36 M41 => ?_)
                                    refine J_icmp_eq (pc := 766) 1534 dL_law_766 rfl (fun h => if_pos h) (fun h => if_neg h) (fun _ => ?_) (fun _ => ?_)
                                    · exact J_sub (A := [some (.ref 0), some (.ref 20), some (.ref 72), some (.ref 104), some (.int v1), none, none, none]) ⟨rfl, ⟨rfl, ⟨rfl, ⟨rfl, ⟨rfl, trivial⟩⟩⟩⟩⟩ (hj1 M41)
                                    · refine J_iconst (pc := 769) 0 dL_law_769 (by decide) ?_
                                      exact J_zret (pc := 770) rfl dL_law_770
                                  · refine J_ite (fun h_39_15 => ?_) (fun h_39_15 => ?_)
                                    · refine J_tableIn (pc := 39) 771 dL_law_39 (by rw [h_39_15]; decide) (by rw [h_39_15]; decide) (by rw [h_39_15]; rfl) rfl ?_
                                      refine J_aload_n (pc := 771) dL_law_771 rfl ?_
                                      refine J_aload_n (pc := 772) dL_law_772 rfl ?_
                                      refine J_iload (pc := 773) dL_law_773 rfl ?_
                                      refine J_iconst (pc := 775) 1 dL_law_775 (by decide) ?_
                                      refine J_iadd (pc := 776) dL_law_776 ?_
                                      refine J_ck (fun h49 => ?_)
                                      refine J_scld (pc := 777) hsc h49 dL_law_777 ?_
                                      refine J_aload_n (pc := 778) dL_law_778 rfl ?_
                                      refine J_iload (pc := 779) dL_law_779 rfl ?_
                                      refine J_iconst (pc := 781) 2 dL_law_781 (by decide) ?_
                                      refine J_iadd (pc := 782) dL_law_782 ?_
                                      refine J_ck (fun h50 => ?_)
                                      refine J_scld (pc := 783) hsc h50 dL_law_783 ?_
                                      refine J_callV (pc := 784) (n := 2) (b := 20) (vs := [.int (sx (ix (v1 + 1))), .int (sx (ix (v1 + 2)))]) (ci := 0) (fun l => C_x_say l (sx (ix (v1 + 1))) (sx (ix (v1 + 2))) M6) (lw_V q737 q738 q739 q116 q740) nmv_X1_say rfl (by omega) (by decide) rfl (fun h => sh_k1 h 0 rfl) rfl (Nat.le_of_ble_eq_true rfl) dL_law_784 (fun v37 M42 => ?_)
                                      refine J_aload_n (pc := 787) dL_law_787 rfl ?_
                                      refine J_aload_n (pc := 788) dL_law_788 rfl ?_
                                      refine J_iload (pc := 789) dL_law_789 rfl ?_
                                      refine J_iconst (pc := 791) 1 dL_law_791 (by decide) ?_
                                      refine J_iadd (pc := 792) dL_law_792 ?_
                                      refine J_ck (fun h51 => ?_)
                                      refine J_scld (pc := 793) hsc h51 dL_law_793 ?_
                                      refine J_aload_n (pc := 794) dL_law_794 rfl ?_
                                      refine J_iload (pc := 795) dL_law_795 rfl ?_
                                      refine J_iconst (pc := 797) 2 dL_law_797 (by decide) ?_
                                      refine J_iadd (pc := 798) dL_law_798 ?_
                                      refine J_ck (fun h52 => ?_)
                                      refine J_scld (pc := 799) hsc h52 dL_law_799 ?_
                                      refine J_callV (pc := 800) (n := 2) (b := 72) (vs := [.int (sx (ix (v1 + 1))), .int (sx (ix (v1 + 2)))]) (ci := 2) (fun l => C_m_say l (sx (ix (v1 + 1))) (sx (ix (v1 + 2))) M42) (lw_V q1481 q1482 q1483 q118 q1484) nmv_X3_say rfl (by omega) (by decide) rfl (fun h => sh_k1 h 52 rfl) rfl (Nat.le_of_ble_eq_true rfl) dL_law_800 (fun v38 M43 => ?_)
                                      refine J_icmp_eq (pc := 803) 1534 dL_law_803 rfl (fun h => if_pos h) (fun h => if_neg h) (fun _ => ?_) (fun _ => ?_)
                                      · exact J_sub (A := [some (.ref 0), some (.ref 20), some (.ref 72), some (.ref 104), some (.int v1), none, none, none]) ⟨rfl, ⟨rfl, ⟨rfl, ⟨rfl, ⟨rfl, trivial⟩⟩⟩⟩⟩ (hj1 M43)
                                      · refine J_iconst (pc := 806) 0 dL_law_806 (by decide) ?_
                                        exact J_zret (pc := 807) rfl dL_law_807
                                    · refine J_ite (fun h_39_16 => ?_) (fun h_39_16 => ?_)
                                      · refine J_tableIn (pc := 39) 808 dL_law_39 (by rw [h_39_16]; decide) (by rw [h_39_16]; decide) (by rw [h_39_16]; rfl) rfl ?_
                                        refine J_aload_n (pc := 808) dL_law_808 rfl ?_
                                        refine J_aload_n (pc := 809) dL_law_809 rfl ?_
                                        refine J_iload (pc := 810) dL_law_810 rfl ?_
                                        refine J_iconst (pc := 812) 1 dL_law_812 (by decide) ?_
                                        refine J_iadd (pc := 813) dL_law_813 ?_
                                        refine J_ck (fun h53 => ?_)
                                        refine J_scld (pc := 814) hsc h53 dL_law_814 ?_
                                        refine J_aload_n (pc := 815) dL_law_815 rfl ?_
                                        refine J_iload (pc := 816) dL_law_816 rfl ?_
                                        refine J_iconst (pc := 818) 2 dL_law_818 (by decide) ?_
                                        refine J_iadd (pc := 819) dL_law_819 ?_
                                        refine J_ck (fun h54 => ?_)
                                        refine J_scld (pc := 820) hsc h54 dL_law_820 ?_
                                        refine J_aload_n (pc := 821) dL_law_821 rfl ?_
                                        refine J_iload (pc := 822) dL_law_822 rfl ?_
                                        refine J_iconst (pc := 824) 3 dL_law_824 (by decide) ?_
                                        refine J_iadd (pc := 825) dL_law_825 ?_
                                        refine J_ck (fun h55 => ?_)
                                        refine J_scld (pc := 826) hsc h55 dL_law_826 ?_
                                        refine J_callV (pc := 827) (n := 3) (b := 20) (vs := [.int (sx (ix (v1 + 1))), .int (sx (ix (v1 + 2))), .int (sx (ix (v1 + 3)))]) (ci := 0) (fun l => C_x_alms l (sx (ix (v1 + 1))) (sx (ix (v1 + 2))) (sx (ix (v1 + 3))) M6) (lw_V q764 q765 q766 q116 q767) nmv_X1_alms rfl (by omega) (by decide) rfl (fun h => sh_k1 h 0 rfl) rfl (Nat.le_of_ble_eq_true rfl) dL_law_827 (fun v39 M44 => ?_)
                                        refine J_aload_n (pc := 830) dL_law_830 rfl ?_
                                        refine J_aload_n (pc := 831) dL_law_831 rfl ?_
                                        refine J_iload (pc := 832) dL_law_832 rfl ?_
                                        refine J_iconst (pc := 834) 1 dL_law_834 (by decide) ?_
                                        refine J_iadd (pc := 835) dL_law_835 ?_
                                        refine J_ck (fun h56 => ?_)
                                        refine J_scld (pc := 836) hsc h56 dL_law_836 ?_
                                        refine J_aload_n (pc := 837) dL_law_837 rfl ?_
                                        refine J_iload (pc := 838) dL_law_838 rfl ?_
                                        refine J_iconst (pc := 840) 2 dL_law_840 (by decide) ?_
                                        refine J_iadd (pc := 841) dL_law_841 ?_
                                        refine J_ck (fun h57 => ?_)
                                        refine J_scld (pc := 842) hsc h57 dL_law_842 ?_
                                        refine J_aload_n (pc := 843) dL_law_843 rfl ?_
                                        refine J_iload (pc := 844) dL_law_844 rfl ?_
                                        refine J_iconst (pc := 846) 3 dL_law_846 (by decide) ?_
                                        refine J_iadd (pc := 847) dL_law_847 ?_
                                        refine J_ck (fun h58 => ?_)
                                        refine J_scld (pc := 848) hsc h58 dL_law_848 ?_
                                        refine J_callV (pc := 849) (n := 3) (b := 72) (vs := [.int (sx (ix (v1 + 1))), .int (sx (ix (v1 + 2))), .int (sx (ix (v1 + 3)))]) (ci := 2) (fun l => C_m_alms l (sx (ix (v1 + 1))) (sx (ix (v1 + 2))) (sx (ix (v1 + 3))) M44) (lw_V q1497 q1498 q1499 q118 q1500) nmv_X3_alms rfl (by omega) (by decide) rfl (fun h => sh_k1 h 52 rfl) rfl (Nat.le_of_ble_eq_true rfl) dL_law_849 (fun v40 M45 => ?_)
                                        refine J_icmp_eq (pc := 852) 1534 dL_law_852 rfl (fun h => if_pos h) (fun h => if_neg h) (fun _ => ?_) (fun _ => ?_)
                                        · exact J_sub (A := [some (.ref 0), some (.ref 20), some (.ref 72), some (.ref 104), some (.int v1), none, none, none]) ⟨rfl, ⟨rfl, ⟨rfl, ⟨rfl, ⟨rfl, trivial⟩⟩⟩⟩⟩ (hj1 M45)
                                        · refine J_iconst (pc := 855) 0 dL_law_855 (by decide) ?_
                                          exact J_zret (pc := 856) rfl dL_law_856
                                      · refine J_ite (fun h_39_17 => ?_) (fun h_39_17 => ?_)
                                        · refine J_tableIn (pc := 39) 857 dL_law_39 (by rw [h_39_17]; decide) (by rw [h_39_17]; decide) (by rw [h_39_17]; rfl) rfl ?_
                                          refine J_aload_n (pc := 857) dL_law_857 rfl ?_
                                          refine J_callV (pc := 858) (n := 0) (b := 20) (vs := []) (ci := 0) (fun l => C_x_journey l  M6) (lw_V q773 q774 q775 q116 q776) nmv_X1_journey rfl (by omega) (by decide) rfl (fun h => sh_k1 h 0 rfl) rfl (Nat.le_of_ble_eq_true rfl) dL_law_858 (fun v41 M46 => ?_)
                                          refine J_aload_n (pc := 861) dL_law_861 rfl ?_
                                          refine J_callV (pc := 862) (n := 0) (b := 72) (vs := []) (ci := 2) (fun l => C_m_journey l  M46) (lw_V q1501 q1502 q1503 q118 q1504) nmv_X3_journey rfl (by omega) (by decide) rfl (fun h => sh_k1 h 52 rfl) rfl (Nat.le_of_ble_eq_true rfl) dL_law_862 (fun v42 M47 => ?_)
                                          refine J_icmp_eq (pc := 865) 1534 dL_law_865 rfl (fun h => if_pos h) (fun h => if_neg h) (fun _ => ?_) (fun _ => ?_)
                                          · exact J_sub (A := [some (.ref 0), some (.ref 20), some (.ref 72), some (.ref 104), some (.int v1), none, none, none]) ⟨rfl, ⟨rfl, ⟨rfl, ⟨rfl, ⟨rfl, trivial⟩⟩⟩⟩⟩ (hj1 M47)
                                          · refine J_iconst (pc := 868) 0 dL_law_868 (by decide) ?_
                                            exact J_zret (pc := 869) rfl dL_law_869
                                        · refine J_ite (fun h_39_18 => ?_) (fun h_39_18 => ?_)
                                          · refine J_tableIn (pc := 39) 870 dL_law_39 (by rw [h_39_18]; decide) (by rw [h_39_18]; decide) (by rw [h_39_18]; rfl) rfl ?_
                                            refine J_aload_n (pc := 870) dL_law_870 rfl ?_
                                            refine J_callV (pc := 871) (n := 0) (b := 20) (vs := []) (ci := 0) (fun l => C_x_undo l  M6) (lw_V q661 q662 q663 q116 q664) nmv_X1_undo rfl (by omega) (by decide) rfl (fun h => sh_k1 h 0 rfl) rfl (Nat.le_of_ble_eq_true rfl) dL_law_871 (fun v43 M48 => ?_)
                                            refine J_aload_n (pc := 874) dL_law_874 rfl ?_
                                            refine J_callV (pc := 875) (n := 0) (b := 72) (vs := []) (ci := 2) (fun l => C_m_undo l  M48) (lw_V q1521 q1522 q1523 q118 q1524) nmv_X3_undo rfl (by omega) (by decide) rfl (fun h => sh_k1 h 52 rfl) rfl (Nat.le_of_ble_eq_true rfl) dL_law_875 (fun v44 M49 => ?_)
                                            refine J_icmp_eq (pc := 878) 1534 dL_law_878 rfl (fun h => if_pos h) (fun h => if_neg h) (fun _ => ?_) (fun _ => ?_)
                                            · exact J_sub (A := [some (.ref 0), some (.ref 20), some (.ref 72), some (.ref 104), some (.int v1), none, none, none]) ⟨rfl, ⟨rfl, ⟨rfl, ⟨rfl, ⟨rfl, trivial⟩⟩⟩⟩⟩ (hj1 M49)
                                            · refine J_iconst (pc := 881) 0 dL_law_881 (by decide) ?_
                                              exact J_zret (pc := 882) rfl dL_law_882
                                          · refine J_ite (fun h_39_19 => ?_) (fun h_39_19 => ?_)
                                            · refine J_tableIn (pc := 39) 883 dL_law_39 (by rw [h_39_19]; decide) (by rw [h_39_19]; decide) (by rw [h_39_19]; rfl) rfl ?_
                                              refine J_aload_n (pc := 883) dL_law_883 rfl ?_
                                              refine J_aload_n (pc := 884) dL_law_884 rfl ?_
                                              refine J_iload (pc := 885) dL_law_885 rfl ?_
                                              refine J_iconst (pc := 887) 1 dL_law_887 (by decide) ?_
                                              refine J_iadd (pc := 888) dL_law_888 ?_
                                              refine J_ck (fun h59 => ?_)
                                              refine J_scld (pc := 889) hsc h59 dL_law_889 ?_
                                              refine J_aload_n (pc := 890) dL_law_890 rfl ?_
                                              refine J_iload (pc := 891) dL_law_891 rfl ?_
                                              refine J_iconst (pc := 893) 2 dL_law_893 (by decide) ?_
                                              refine J_iadd (pc := 894) dL_law_894 ?_
                                              refine J_ck (fun h60 => ?_)
                                              refine J_scld (pc := 895) hsc h60 dL_law_895 ?_
                                              refine J_callV (pc := 896) (n := 2) (b := 20) (vs := [.int (sx (ix (v1 + 1))), .int (sx (ix (v1 + 2)))]) (ci := 0) (fun l => C_x_cheapest l (sx (ix (v1 + 1))) (sx (ix (v1 + 2))) M6) (lw_V q812 q813 q814 q116 q815) nmv_X1_cheapest rfl (by omega) (by decide) rfl (fun h => sh_k1 h 0 rfl) rfl (Nat.le_of_ble_eq_true rfl) dL_law_896 (fun v45 M50 => ?_)
                                              refine J_aload_n (pc := 899) dL_law_899 rfl ?_
                                              refine J_aload_n (pc := 900) dL_law_900 rfl ?_
                                              refine J_iload (pc := 901) dL_law_901 rfl ?_
                                              refine J_iconst (pc := 903) 1 dL_law_903 (by decide) ?_
                                              refine J_iadd (pc := 904) dL_law_904 ?_
                                              refine J_ck (fun h61 => ?_)
                                              refine J_scld (pc := 905) hsc h61 dL_law_905 ?_
                                              refine J_aload_n (pc := 906) dL_law_906 rfl ?_
                                              refine J_iload (pc := 907) dL_law_907 rfl ?_
                                              refine J_iconst (pc := 909) 2 dL_law_909 (by decide) ?_
                                              refine J_iadd (pc := 910) dL_law_910 ?_
                                              refine J_ck (fun h62 => ?_)
                                              refine J_scld (pc := 911) hsc h62 dL_law_911 ?_
                                              refine J_callV (pc := 912) (n := 2) (b := 72) (vs := [.int (sx (ix (v1 + 1))), .int (sx (ix (v1 + 2)))]) (ci := 2) (fun l => C_m_cheapest l (sx (ix (v1 + 1))) (sx (ix (v1 + 2))) M50) (lw_V q1525 q1526 q1527 q118 q1528) nmv_X3_cheapest rfl (by omega) (by decide) rfl (fun h => sh_k1 h 52 rfl) rfl (Nat.le_of_ble_eq_true rfl) dL_law_912 (fun v46 M51 => ?_)
                                              refine J_icmp_eq (pc := 915) 1534 dL_law_915 rfl (fun h => if_pos h) (fun h => if_neg h) (fun _ => ?_) (fun _ => ?_)
                                              · exact J_sub (A := [some (.ref 0), some (.ref 20), some (.ref 72), some (.ref 104), some (.int v1), none, none, none]) ⟨rfl, ⟨rfl, ⟨rfl, ⟨rfl, ⟨rfl, trivial⟩⟩⟩⟩⟩ (hj1 M51)
                                              · refine J_iconst (pc := 918) 0 dL_law_918 (by decide) ?_
                                                exact J_zret (pc := 919) rfl dL_law_919
                                            · refine J_ite (fun h_39_20 => ?_) (fun h_39_20 => ?_)
                                              · refine J_tableIn (pc := 39) 920 dL_law_39 (by rw [h_39_20]; decide) (by rw [h_39_20]; decide) (by rw [h_39_20]; rfl) rfl ?_
                                                refine J_aload_n (pc := 920) dL_law_920 rfl ?_
                                                refine J_aload_n (pc := 921) dL_law_921 rfl ?_
                                                refine J_iload (pc := 922) dL_law_922 rfl ?_
                                                refine J_iconst (pc := 924) 1 dL_law_924 (by decide) ?_
                                                refine J_iadd (pc := 925) dL_law_925 ?_
                                                refine J_ck (fun h63 => ?_)
                                                refine J_scld (pc := 926) hsc h63 dL_law_926 ?_
                                                refine J_callV (pc := 927) (n := 1) (b := 20) (vs := [.int (sx (ix (v1 + 1)))]) (ci := 0) (fun l => C_x_sentence l (sx (ix (v1 + 1))) M6) (lw_V q817 q818 q819 q116 q820) nmv_X1_sentence rfl (by omega) (by decide) rfl (fun h => sh_k1 h 0 rfl) rfl (Nat.le_of_ble_eq_true rfl) dL_law_927 (fun v47 M52 => ?_)
                                                refine J_aload_n (pc := 930) dL_law_930 rfl ?_
                                                refine J_aload_n (pc := 931) dL_law_931 rfl ?_
                                                refine J_iload (pc := 932) dL_law_932 rfl ?_
                                                refine J_iconst (pc := 934) 1 dL_law_934 (by decide) ?_
                                                refine J_iadd (pc := 935) dL_law_935 ?_
                                                refine J_ck (fun h64 => ?_)
                                                refine J_scld (pc := 936) hsc h64 dL_law_936 ?_
                                                refine J_callV (pc := 937) (n := 1) (b := 72) (vs := [.int (sx (ix (v1 + 1)))]) (ci := 2) (fun l => C_m_sentence l (sx (ix (v1 + 1))) M52) (lw_V q1532 q1533 q1534 q118 q1535) nmv_X3_sentence rfl (by omega) (by decide) rfl (fun h => sh_k1 h 52 rfl) rfl (Nat.le_of_ble_eq_true rfl) dL_law_937 (fun v48 M53 => ?_)
                                                refine J_icmp_eq (pc := 940) 1534 dL_law_940 rfl (fun h => if_pos h) (fun h => if_neg h) (fun _ => ?_) (fun _ => ?_)
                                                · exact J_sub (A := [some (.ref 0), some (.ref 20), some (.ref 72), some (.ref 104), some (.int v1), none, none, none]) ⟨rfl, ⟨rfl, ⟨rfl, ⟨rfl, ⟨rfl, trivial⟩⟩⟩⟩⟩ (hj1 M53)
                                                · refine J_iconst (pc := 943) 0 dL_law_943 (by decide) ?_
                                                  exact J_zret (pc := 944) rfl dL_law_944
                                              · refine J_ite (fun h_39_21 => ?_) (fun h_39_21 => ?_)
                                                · refine J_tableIn (pc := 39) 945 dL_law_39 (by rw [h_39_21]; decide) (by rw [h_39_21]; decide) (by rw [h_39_21]; rfl) rfl ?_
                                                  refine J_aload_n (pc := 945) dL_law_945 rfl ?_
                                                  refine J_aload_n (pc := 946) dL_law_946 rfl ?_
                                                  refine J_iload (pc := 947) dL_law_947 rfl ?_
                                                  refine J_iconst (pc := 949) 1 dL_law_949 (by decide) ?_
                                                  refine J_iadd (pc := 950) dL_law_950 ?_
                                                  refine J_ck (fun h65 => ?_)
                                                  refine J_scld (pc := 951) hsc h65 dL_law_951 ?_
                                                  refine J_aload_n (pc := 952) dL_law_952 rfl ?_
                                                  refine J_iload (pc := 953) dL_law_953 rfl ?_
                                                  refine J_iconst (pc := 955) 2 dL_law_955 (by decide) ?_
                                                  refine J_iadd (pc := 956) dL_law_956 ?_
                                                  refine J_ck (fun h66 => ?_)
                                                  refine J_scld (pc := 957) hsc h66 dL_law_957 ?_
                                                  refine J_callV (pc := 958) (n := 2) (b := 20) (vs := [.int (sx (ix (v1 + 1))), .int (sx (ix (v1 + 2)))]) (ci := 0) (fun l => C_x_when l (sx (ix (v1 + 1))) (sx (ix (v1 + 2))) M6) (lw_V q829 q830 q831 q116 q832) nmv_X1_when rfl (by omega) (by decide) rfl (fun h => sh_k1 h 0 rfl) rfl (Nat.le_of_ble_eq_true rfl) dL_law_958 (fun v49 M54 => ?_)
                                                  refine J_aload_n (pc := 961) dL_law_961 rfl ?_
                                                  refine J_aload_n (pc := 962) dL_law_962 rfl ?_
                                                  refine J_iload (pc := 963) dL_law_963 rfl ?_
                                                  refine J_iconst (pc := 965) 1 dL_law_965 (by decide) ?_
                                                  refine J_iadd (pc := 966) dL_law_966 ?_
                                                  refine J_ck (fun h67 => ?_)
                                                  refine J_scld (pc := 967) hsc h67 dL_law_967 ?_
                                                  refine J_aload_n (pc := 968) dL_law_968 rfl ?_
                                                  refine J_iload (pc := 969) dL_law_969 rfl ?_
                                                  refine J_iconst (pc := 971) 2 dL_law_971 (by decide) ?_
                                                  refine J_iadd (pc := 972) dL_law_972 ?_
                                                  refine J_ck (fun h68 => ?_)
                                                  refine J_scld (pc := 973) hsc h68 dL_law_973 ?_
                                                  refine J_callV (pc := 974) (n := 2) (b := 72) (vs := [.int (sx (ix (v1 + 1))), .int (sx (ix (v1 + 2)))]) (ci := 2) (fun l => C_m_when l (sx (ix (v1 + 1))) (sx (ix (v1 + 2))) M54) (lw_V q1541 q1542 q1543 q118 q1544) nmv_X3_when rfl (by omega) (by decide) rfl (fun h => sh_k1 h 52 rfl) rfl (Nat.le_of_ble_eq_true rfl) dL_law_974 (fun v50 M55 => ?_)
                                                  refine J_icmp_eq (pc := 977) 1534 dL_law_977 rfl (fun h => if_pos h) (fun h => if_neg h) (fun _ => ?_) (fun _ => ?_)
                                                  · exact J_sub (A := [some (.ref 0), some (.ref 20), some (.ref 72), some (.ref 104), some (.int v1), none, none, none]) ⟨rfl, ⟨rfl, ⟨rfl, ⟨rfl, ⟨rfl, trivial⟩⟩⟩⟩⟩ (hj1 M55)
                                                  · refine J_iconst (pc := 980) 0 dL_law_980 (by decide) ?_
                                                    exact J_zret (pc := 981) rfl dL_law_981
                                                · refine J_ite (fun h_39_22 => ?_) (fun h_39_22 => ?_)
                                                  · refine J_tableIn (pc := 39) 982 dL_law_39 (by rw [h_39_22]; decide) (by rw [h_39_22]; decide) (by rw [h_39_22]; rfl) rfl ?_
                                                    refine J_aload_n (pc := 982) dL_law_982 rfl ?_
                                                    refine J_aload_n (pc := 983) dL_law_983 rfl ?_
                                                    refine J_iload (pc := 984) dL_law_984 rfl ?_
                                                    refine J_iconst (pc := 986) 1 dL_law_986 (by decide) ?_
                                                    refine J_iadd (pc := 987) dL_law_987 ?_
                                                    refine J_ck (fun h69 => ?_)
                                                    refine J_scld (pc := 988) hsc h69 dL_law_988 ?_
                                                    refine J_aload_n (pc := 989) dL_law_989 rfl ?_
                                                    refine J_iload (pc := 990) dL_law_990 rfl ?_
                                                    refine J_iconst (pc := 992) 2 dL_law_992 (by decide) ?_
                                                    refine J_iadd (pc := 993) dL_law_993 ?_
                                                    refine J_ck (fun h70 => ?_)
                                                    refine J_scld (pc := 994) hsc h70 dL_law_994 ?_
                                                    refine J_aload_n (pc := 995) dL_law_995 rfl ?_
                                                    refine J_iload (pc := 996) dL_law_996 rfl ?_
                                                    refine J_iconst (pc := 998) 3 dL_law_998 (by decide) ?_
                                                    refine J_iadd (pc := 999) dL_law_999 ?_
                                                    refine J_ck (fun h71 => ?_)
                                                    refine J_scld (pc := 1000) hsc h71 dL_law_1000 ?_
                                                    refine J_callV (pc := 1001) (n := 3) (b := 20) (vs := [.int (sx (ix (v1 + 1))), .int (sx (ix (v1 + 2))), .int (sx (ix (v1 + 3)))]) (ci := 0) (fun l => C_x_shortest l (sx (ix (v1 + 1))) (sx (ix (v1 + 2))) (sx (ix (v1 + 3))) M6) (lw_V q833 q834 q835 q116 q836) nmv_X1_shortest rfl (by omega) (by decide) rfl (fun h => sh_k1 h 0 rfl) rfl (Nat.le_of_ble_eq_true rfl) dL_law_1001 (fun v51 M56 => ?_)
                                                    refine J_aload_n (pc := 1004) dL_law_1004 rfl ?_
                                                    refine J_aload_n (pc := 1005) dL_law_1005 rfl ?_
                                                    refine J_iload (pc := 1006) dL_law_1006 rfl ?_
                                                    refine J_iconst (pc := 1008) 1 dL_law_1008 (by decide) ?_
                                                    refine J_iadd (pc := 1009) dL_law_1009 ?_
                                                    refine J_ck (fun h72 => ?_)
                                                    refine J_scld (pc := 1010) hsc h72 dL_law_1010 ?_
                                                    refine J_aload_n (pc := 1011) dL_law_1011 rfl ?_
                                                    refine J_iload (pc := 1012) dL_law_1012 rfl ?_
                                                    refine J_iconst (pc := 1014) 2 dL_law_1014 (by decide) ?_
                                                    refine J_iadd (pc := 1015) dL_law_1015 ?_
                                                    refine J_ck (fun h73 => ?_)
                                                    refine J_scld (pc := 1016) hsc h73 dL_law_1016 ?_
                                                    refine J_aload_n (pc := 1017) dL_law_1017 rfl ?_
                                                    refine J_iload (pc := 1018) dL_law_1018 rfl ?_
                                                    refine J_iconst (pc := 1020) 3 dL_law_1020 (by decide) ?_
                                                    refine J_iadd (pc := 1021) dL_law_1021 ?_
                                                    refine J_ck (fun h74 => ?_)
                                                    refine J_scld (pc := 1022) hsc h74 dL_law_1022 ?_
                                                    refine J_callV (pc := 1023) (n := 3) (b := 72) (vs := [.int (sx (ix (v1 + 1))), .int (sx (ix (v1 + 2))), .int (sx (ix (v1 + 3)))]) (ci := 2) (fun l => C_m_shortest l (sx (ix (v1 + 1))) (sx (ix (v1 + 2))) (sx (ix (v1 + 3))) M56) (lw_V q1545 q1546 q1547 q118 q1548) nmv_X3_shortest rfl (by omega) (by decide) rfl (fun h => sh_k1 h 52 rfl) rfl (Nat.le_of_ble_eq_true rfl) dL_law_1023 (fun v52 M57 => ?_)
                                                    refine J_icmp_eq (pc := 1026) 1534 dL_law_1026 rfl (fun h => if_pos h) (fun h => if_neg h) (fun _ => ?_) (fun _ => ?_)
                                                    · exact J_sub (A := [some (.ref 0), some (.ref 20), some (.ref 72), some (.ref 104), some (.int v1), none, none, none]) ⟨rfl, ⟨rfl, ⟨rfl, ⟨rfl, ⟨rfl, trivial⟩⟩⟩⟩⟩ (hj1 M57)
                                                    · refine J_iconst (pc := 1029) 0 dL_law_1029 (by decide) ?_
                                                      exact J_zret (pc := 1030) rfl dL_law_1030
                                                  · refine J_ite (fun h_39_23 => ?_) (fun h_39_23 => ?_)
                                                    · refine J_tableIn (pc := 39) 1031 dL_law_39 (by rw [h_39_23]; decide) (by rw [h_39_23]; decide) (by rw [h_39_23]; rfl) rfl ?_
                                                      refine J_aload_n (pc := 1031) dL_law_1031 rfl ?_
                                                      refine J_aload_n (pc := 1032) dL_law_1032 rfl ?_
                                                      refine J_iload (pc := 1033) dL_law_1033 rfl ?_
                                                      refine J_iconst (pc := 1035) 1 dL_law_1035 (by decide) ?_
                                                      refine J_iadd (pc := 1036) dL_law_1036 ?_
                                                      refine J_ck (fun h75 => ?_)
                                                      refine J_scld (pc := 1037) hsc h75 dL_law_1037 ?_
                                                      refine J_aload_n (pc := 1038) dL_law_1038 rfl ?_
                                                      refine J_iload (pc := 1039) dL_law_1039 rfl ?_
                                                      refine J_iconst (pc := 1041) 2 dL_law_1041 (by decide) ?_
                                                      refine J_iadd (pc := 1042) dL_law_1042 ?_
                                                      refine J_ck (fun h76 => ?_)
                                                      refine J_scld (pc := 1043) hsc h76 dL_law_1043 ?_
                                                      refine J_callV (pc := 1044) (n := 2) (b := 20) (vs := [.int (sx (ix (v1 + 1))), .int (sx (ix (v1 + 2)))]) (ci := 0) (fun l => C_x_differ l (sx (ix (v1 + 1))) (sx (ix (v1 + 2))) M6) (lw_V q837 q838 q839 q116 q840) nmv_X1_differ rfl (by omega) (by decide) rfl (fun h => sh_k1 h 0 rfl) rfl (Nat.le_of_ble_eq_true rfl) dL_law_1044 (fun v53 M58 => ?_)
                                                      refine J_aload_n (pc := 1047) dL_law_1047 rfl ?_
                                                      refine J_aload_n (pc := 1048) dL_law_1048 rfl ?_
                                                      refine J_iload (pc := 1049) dL_law_1049 rfl ?_
                                                      refine J_iconst (pc := 1051) 1 dL_law_1051 (by decide) ?_
                                                      refine J_iadd (pc := 1052) dL_law_1052 ?_
                                                      refine J_ck (fun h77 => ?_)
                                                      refine J_scld (pc := 1053) hsc h77 dL_law_1053 ?_
                                                      refine J_aload_n (pc := 1054) dL_law_1054 rfl ?_
                                                      refine J_iload (pc := 1055) dL_law_1055 rfl ?_
                                                      refine J_iconst (pc := 1057) 2 dL_law_1057 (by decide) ?_
                                                      refine J_iadd (pc := 1058) dL_law_1058 ?_
                                                      refine J_ck (fun h78 => ?_)
                                                      refine J_scld (pc := 1059) hsc h78 dL_law_1059 ?_
                                                      refine J_callV (pc := 1060) (n := 2) (b := 72) (vs := [.int (sx (ix (v1 + 1))), .int (sx (ix (v1 + 2)))]) (ci := 2) (fun l => C_m_differ l (sx (ix (v1 + 1))) (sx (ix (v1 + 2))) M58) (lw_V q1549 q1550 q1551 q118 q1552) nmv_X3_differ rfl (by omega) (by decide) rfl (fun h => sh_k1 h 52 rfl) rfl (Nat.le_of_ble_eq_true rfl) dL_law_1060 (fun v54 M59 => ?_)
                                                      refine J_icmp_eq (pc := 1063) 1534 dL_law_1063 rfl (fun h => if_pos h) (fun h => if_neg h) (fun _ => ?_) (fun _ => ?_)
                                                      · exact J_sub (A := [some (.ref 0), some (.ref 20), some (.ref 72), some (.ref 104), some (.int v1), none, none, none]) ⟨rfl, ⟨rfl, ⟨rfl, ⟨rfl, ⟨rfl, trivial⟩⟩⟩⟩⟩ (hj1 M59)
                                                      · refine J_iconst (pc := 1066) 0 dL_law_1066 (by decide) ?_
                                                        exact J_zret (pc := 1067) rfl dL_law_1067
                                                    · refine J_ite (fun h_39_24 => ?_) (fun h_39_24 => ?_)
                                                      · refine J_tableIn (pc := 39) 1068 dL_law_39 (by rw [h_39_24]; decide) (by rw [h_39_24]; decide) (by rw [h_39_24]; rfl) rfl ?_
                                                        refine J_aload_n (pc := 1068) dL_law_1068 rfl ?_
                                                        refine J_aload_n (pc := 1069) dL_law_1069 rfl ?_
                                                        refine J_iload (pc := 1070) dL_law_1070 rfl ?_
                                                        refine J_iconst (pc := 1072) 1 dL_law_1072 (by decide) ?_
                                                        refine J_iadd (pc := 1073) dL_law_1073 ?_
                                                        refine J_ck (fun h79 => ?_)
                                                        refine J_scld (pc := 1074) hsc h79 dL_law_1074 ?_
                                                        refine J_callV (pc := 1075) (n := 1) (b := 20) (vs := [.int (sx (ix (v1 + 1)))]) (ci := 0) (fun l => C_x_near l (sx (ix (v1 + 1))) M6) (lw_V q849 q850 q851 q116 q852) nmv_X1_near rfl (by omega) (by decide) rfl (fun h => sh_k1 h 0 rfl) rfl (Nat.le_of_ble_eq_true rfl) dL_law_1075 (fun v55 M60 => ?_)
                                                        refine J_aload_n (pc := 1078) dL_law_1078 rfl ?_
                                                        refine J_aload_n (pc := 1079) dL_law_1079 rfl ?_
                                                        refine J_iload (pc := 1080) dL_law_1080 rfl ?_
                                                        refine J_iconst (pc := 1082) 1 dL_law_1082 (by decide) ?_
                                                        refine J_iadd (pc := 1083) dL_law_1083 ?_
                                                        refine J_ck (fun h80 => ?_)
                                                        refine J_scld (pc := 1084) hsc h80 dL_law_1084 ?_
                                                        refine J_callV (pc := 1085) (n := 1) (b := 72) (vs := [.int (sx (ix (v1 + 1)))]) (ci := 2) (fun l => C_m_near l (sx (ix (v1 + 1))) M60) (lw_V q1565 q1566 q1567 q118 q1568) nmv_X3_near rfl (by omega) (by decide) rfl (fun h => sh_k1 h 52 rfl) rfl (Nat.le_of_ble_eq_true rfl) dL_law_1085 (fun v56 M61 => ?_)
                                                        refine J_icmp_eq (pc := 1088) 1534 dL_law_1088 rfl (fun h => if_pos h) (fun h => if_neg h) (fun _ => ?_) (fun _ => ?_)
                                                        · exact J_sub (A := [some (.ref 0), some (.ref 20), some (.ref 72), some (.ref 104), some (.int v1), none, none, none]) ⟨rfl, ⟨rfl, ⟨rfl, ⟨rfl, ⟨rfl, trivial⟩⟩⟩⟩⟩ (hj1 M61)
                                                        · refine J_iconst (pc := 1091) 0 dL_law_1091 (by decide) ?_
                                                          exact J_zret (pc := 1092) rfl dL_law_1092
                                                      · refine J_ite (fun h_39_25 => ?_) (fun h_39_25 => ?_)
                                                        · refine J_tableIn (pc := 39) 1093 dL_law_39 (by rw [h_39_25]; decide) (by rw [h_39_25]; decide) (by rw [h_39_25]; rfl) rfl ?_
                                                          refine J_aload_n (pc := 1093) dL_law_1093 rfl ?_
                                                          refine J_aload_n (pc := 1094) dL_law_1094 rfl ?_
                                                          refine J_iload (pc := 1095) dL_law_1095 rfl ?_
                                                          refine J_iconst (pc := 1097) 1 dL_law_1097 (by decide) ?_
                                                          refine J_iadd (pc := 1098) dL_law_1098 ?_
                                                          refine J_ck (fun h81 => ?_)
                                                          refine J_scld (pc := 1099) hsc h81 dL_law_1099 ?_
                                                          refine J_aload_n (pc := 1100) dL_law_1100 rfl ?_
                                                          refine J_iload (pc := 1101) dL_law_1101 rfl ?_
                                                          refine J_iconst (pc := 1103) 2 dL_law_1103 (by decide) ?_
                                                          refine J_iadd (pc := 1104) dL_law_1104 ?_
                                                          refine J_ck (fun h82 => ?_)
                                                          refine J_scld (pc := 1105) hsc h82 dL_law_1105 ?_
                                                          refine J_aload_n (pc := 1106) dL_law_1106 rfl ?_
                                                          refine J_iload (pc := 1107) dL_law_1107 rfl ?_
                                                          refine J_iconst (pc := 1109) 3 dL_law_1109 (by decide) ?_
                                                          refine J_iadd (pc := 1110) dL_law_1110 ?_
                                                          refine J_ck (fun h83 => ?_)
                                                          refine J_scld (pc := 1111) hsc h83 dL_law_1111 ?_
                                                          refine J_callV (pc := 1112) (n := 3) (b := 20) (vs := [.int (sx (ix (v1 + 1))), .int (sx (ix (v1 + 2))), .int (sx (ix (v1 + 3)))]) (ci := 0) (fun l => C_x_heard l (sx (ix (v1 + 1))) (sx (ix (v1 + 2))) (sx (ix (v1 + 3))) M6) (lw_V q853 q854 q855 q116 q856) nmv_X1_heard rfl (by omega) (by decide) rfl (fun h => sh_k1 h 0 rfl) rfl (Nat.le_of_ble_eq_true rfl) dL_law_1112 (fun v57 M62 => ?_)
                                                          refine J_aload_n (pc := 1115) dL_law_1115 rfl ?_
                                                          refine J_aload_n (pc := 1116) dL_law_1116 rfl ?_
                                                          refine J_iload (pc := 1117) dL_law_1117 rfl ?_
                                                          refine J_iconst (pc := 1119) 1 dL_law_1119 (by decide) ?_
                                                          refine J_iadd (pc := 1120) dL_law_1120 ?_
                                                          refine J_ck (fun h84 => ?_)
                                                          refine J_scld (pc := 1121) hsc h84 dL_law_1121 ?_
                                                          refine J_aload_n (pc := 1122) dL_law_1122 rfl ?_
                                                          refine J_iload (pc := 1123) dL_law_1123 rfl ?_
                                                          refine J_iconst (pc := 1125) 2 dL_law_1125 (by decide) ?_
                                                          refine J_iadd (pc := 1126) dL_law_1126 ?_
                                                          refine J_ck (fun h85 => ?_)
                                                          refine J_scld (pc := 1127) hsc h85 dL_law_1127 ?_
                                                          refine J_aload_n (pc := 1128) dL_law_1128 rfl ?_
                                                          refine J_iload (pc := 1129) dL_law_1129 rfl ?_
                                                          refine J_iconst (pc := 1131) 3 dL_law_1131 (by decide) ?_
                                                          refine J_iadd (pc := 1132) dL_law_1132 ?_
                                                          refine J_ck (fun h86 => ?_)
                                                          refine J_scld (pc := 1133) hsc h86 dL_law_1133 ?_
                                                          refine J_callV (pc := 1134) (n := 3) (b := 72) (vs := [.int (sx (ix (v1 + 1))), .int (sx (ix (v1 + 2))), .int (sx (ix (v1 + 3)))]) (ci := 2) (fun l => C_m_heard l (sx (ix (v1 + 1))) (sx (ix (v1 + 2))) (sx (ix (v1 + 3))) M62) (lw_V q1573 q1574 q1575 q118 q1576) nmv_X3_heard rfl (by omega) (by decide) rfl (fun h => sh_k1 h 52 rfl) rfl (Nat.le_of_ble_eq_true rfl) dL_law_1134 (fun v58 M63 => ?_)
                                                          refine J_icmp_eq (pc := 1137) 1534 dL_law_1137 rfl (fun h => if_pos h) (fun h => if_neg h) (fun _ => ?_) (fun _ => ?_)
                                                          · exact J_sub (A := [some (.ref 0), some (.ref 20), some (.ref 72), some (.ref 104), some (.int v1), none, none, none]) ⟨rfl, ⟨rfl, ⟨rfl, ⟨rfl, ⟨rfl, trivial⟩⟩⟩⟩⟩ (hj1 M63)
                                                          · refine J_iconst (pc := 1140) 0 dL_law_1140 (by decide) ?_
                                                            exact J_zret (pc := 1141) rfl dL_law_1141
                                                        · refine J_ite (fun h_39_26 => ?_) (fun h_39_26 => ?_)
                                                          · refine J_tableIn (pc := 39) 1142 dL_law_39 (by rw [h_39_26]; decide) (by rw [h_39_26]; decide) (by rw [h_39_26]; rfl) rfl ?_
                                                            refine J_aload_n (pc := 1142) dL_law_1142 rfl ?_
                                                            refine J_aload_n (pc := 1143) dL_law_1143 rfl ?_
                                                            refine J_iload (pc := 1144) dL_law_1144 rfl ?_
                                                            refine J_iconst (pc := 1146) 1 dL_law_1146 (by decide) ?_
                                                            refine J_iadd (pc := 1147) dL_law_1147 ?_
                                                            refine J_ck (fun h87 => ?_)
                                                            refine J_scld (pc := 1148) hsc h87 dL_law_1148 ?_
                                                            refine J_callV (pc := 1149) (n := 1) (b := 20) (vs := [.int (sx (ix (v1 + 1)))]) (ci := 0) (fun l => C_x_code l (sx (ix (v1 + 1))) M6) (lw_V q862 q863 q864 q116 q865) nmv_X1_code rfl (by omega) (by decide) rfl (fun h => sh_k1 h 0 rfl) rfl (Nat.le_of_ble_eq_true rfl) dL_law_1149 (fun v59 M64 => ?_)
                                                            refine J_aload_n (pc := 1152) dL_law_1152 rfl ?_
                                                            refine J_aload_n (pc := 1153) dL_law_1153 rfl ?_
                                                            refine J_iload (pc := 1154) dL_law_1154 rfl ?_
                                                            refine J_iconst (pc := 1156) 1 dL_law_1156 (by decide) ?_
                                                            refine J_iadd (pc := 1157) dL_law_1157 ?_
                                                            refine J_ck (fun h88 => ?_)
                                                            refine J_scld (pc := 1158) hsc h88 dL_law_1158 ?_
                                                            refine J_callV (pc := 1159) (n := 1) (b := 72) (vs := [.int (sx (ix (v1 + 1)))]) (ci := 2) (fun l => C_m_code l (sx (ix (v1 + 1))) M64) (lw_V q1584 q1585 q1586 q118 q1587) nmv_X3_code rfl (by omega) (by decide) rfl (fun h => sh_k1 h 52 rfl) rfl (Nat.le_of_ble_eq_true rfl) dL_law_1159 (fun v60 M65 => ?_)
                                                            refine J_icmp_eq (pc := 1162) 1534 dL_law_1162 rfl (fun h => if_pos h) (fun h => if_neg h) (fun _ => ?_) (fun _ => ?_)
                                                            · exact J_sub (A := [some (.ref 0), some (.ref 20), some (.ref 72), some (.ref 104), some (.int v1), none, none, none]) ⟨rfl, ⟨rfl, ⟨rfl, ⟨rfl, ⟨rfl, trivial⟩⟩⟩⟩⟩ (hj1 M65)
                                                            · refine J_iconst (pc := 1165) 0 dL_law_1165 (by decide) ?_
                                                              exact J_zret (pc := 1166) rfl dL_law_1166
                                                          · refine J_ite (fun h_39_27 => ?_) (fun h_39_27 => ?_)
                                                            · refine J_tableIn (pc := 39) 1167 dL_law_39 (by rw [h_39_27]; decide) (by rw [h_39_27]; decide) (by rw [h_39_27]; rfl) rfl ?_
                                                              refine J_aload_n (pc := 1167) dL_law_1167 rfl ?_
                                                              refine J_aload_n (pc := 1168) dL_law_1168 rfl ?_
                                                              refine J_iload (pc := 1169) dL_law_1169 rfl ?_
                                                              refine J_iconst (pc := 1171) 1 dL_law_1171 (by decide) ?_
                                                              refine J_iadd (pc := 1172) dL_law_1172 ?_
                                                              refine J_ck (fun h89 => ?_)
                                                              refine J_scld (pc := 1173) hsc h89 dL_law_1173 ?_
                                                              refine J_aload_n (pc := 1174) dL_law_1174 rfl ?_
                                                              refine J_iload (pc := 1175) dL_law_1175 rfl ?_
                                                              refine J_iconst (pc := 1177) 2 dL_law_1177 (by decide) ?_
                                                              refine J_iadd (pc := 1178) dL_law_1178 ?_
                                                              refine J_ck (fun h90 => ?_)
                                                              refine J_scld (pc := 1179) hsc h90 dL_law_1179 ?_
                                                              refine J_callV (pc := 1180) (n := 2) (b := 20) (vs := [.int (sx (ix (v1 + 1))), .int (sx (ix (v1 + 2)))]) (ci := 0) (fun l => C_x_trip l (sx (ix (v1 + 1))) (sx (ix (v1 + 2))) M6) (lw_V q880 q881 q882 q116 q883) nmv_X1_trip rfl (by omega) (by decide) rfl (fun h => sh_k1 h 0 rfl) rfl (Nat.le_of_ble_eq_true rfl) dL_law_1180 (fun v61 M66 => ?_)
                                                              refine J_aload_n (pc := 1183) dL_law_1183 rfl ?_
                                                              refine J_aload_n (pc := 1184) dL_law_1184 rfl ?_
                                                              refine J_iload (pc := 1185) dL_law_1185 rfl ?_
                                                              refine J_iconst (pc := 1187) 1 dL_law_1187 (by decide) ?_
                                                              refine J_iadd (pc := 1188) dL_law_1188 ?_
                                                              refine J_ck (fun h91 => ?_)
                                                              refine J_scld (pc := 1189) hsc h91 dL_law_1189 ?_
                                                              refine J_aload_n (pc := 1190) dL_law_1190 rfl ?_
                                                              refine J_iload (pc := 1191) dL_law_1191 rfl ?_
                                                              refine J_iconst (pc := 1193) 2 dL_law_1193 (by decide) ?_
                                                              refine J_iadd (pc := 1194) dL_law_1194 ?_
                                                              refine J_ck (fun h92 => ?_)
                                                              refine J_scld (pc := 1195) hsc h92 dL_law_1195 ?_
                                                              refine J_callV (pc := 1196) (n := 2) (b := 72) (vs := [.int (sx (ix (v1 + 1))), .int (sx (ix (v1 + 2)))]) (ci := 2) (fun l => C_m_trip l (sx (ix (v1 + 1))) (sx (ix (v1 + 2))) M66) (lw_V q1597 q1598 q1599 q118 q1600) nmv_X3_trip rfl (by omega) (by decide) rfl (fun h => sh_k1 h 52 rfl) rfl (Nat.le_of_ble_eq_true rfl) dL_law_1196 (fun v62 M67 => ?_)
                                                              refine J_icmp_eq (pc := 1199) 1534 dL_law_1199 rfl (fun h => if_pos h) (fun h => if_neg h) (fun _ => ?_) (fun _ => ?_)
                                                              · exact J_sub (A := [some (.ref 0), some (.ref 20), some (.ref 72), some (.ref 104), some (.int v1), none, none, none]) ⟨rfl, ⟨rfl, ⟨rfl, ⟨rfl, ⟨rfl, trivial⟩⟩⟩⟩⟩ (hj1 M67)
                                                              · refine J_iconst (pc := 1202) 0 dL_law_1202 (by decide) ?_
                                                                exact J_zret (pc := 1203) rfl dL_law_1203
                                                            · refine J_ite (fun h_39_28 => ?_) (fun h_39_28 => ?_)
                                                              · refine J_tableIn (pc := 39) 1204 dL_law_39 (by rw [h_39_28]; decide) (by rw [h_39_28]; decide) (by rw [h_39_28]; rfl) rfl ?_
                                                                refine J_aload_n (pc := 1204) dL_law_1204 rfl ?_
                                                                refine J_aload_n (pc := 1205) dL_law_1205 rfl ?_
                                                                refine J_iload (pc := 1206) dL_law_1206 rfl ?_
                                                                refine J_iconst (pc := 1208) 1 dL_law_1208 (by decide) ?_
                                                                refine J_iadd (pc := 1209) dL_law_1209 ?_
                                                                refine J_ck (fun h93 => ?_)
                                                                refine J_scld (pc := 1210) hsc h93 dL_law_1210 ?_
                                                                refine J_callV (pc := 1211) (n := 1) (b := 20) (vs := [.int (sx (ix (v1 + 1)))]) (ci := 0) (fun l => C_x_haste l (sx (ix (v1 + 1))) M6) (lw_V q908 q909 q910 q116 q911) nmv_X1_haste rfl (by omega) (by decide) rfl (fun h => sh_k1 h 0 rfl) rfl (Nat.le_of_ble_eq_true rfl) dL_law_1211 (fun v63 M68 => ?_)
                                                                refine J_aload_n (pc := 1214) dL_law_1214 rfl ?_
                                                                refine J_aload_n (pc := 1215) dL_law_1215 rfl ?_
                                                                refine J_iload (pc := 1216) dL_law_1216 rfl ?_
                                                                refine J_iconst (pc := 1218) 1 dL_law_1218 (by decide) ?_
                                                                refine J_iadd (pc := 1219) dL_law_1219 ?_
                                                                refine J_ck (fun h94 => ?_)
                                                                refine J_scld (pc := 1220) hsc h94 dL_law_1220 ?_
                                                                refine J_callV (pc := 1221) (n := 1) (b := 72) (vs := [.int (sx (ix (v1 + 1)))]) (ci := 2) (fun l => C_m_haste l (sx (ix (v1 + 1))) M68) (lw_V q1617 q1618 q1619 q118 q1620) nmv_X3_haste rfl (by omega) (by decide) rfl (fun h => sh_k1 h 52 rfl) rfl (Nat.le_of_ble_eq_true rfl) dL_law_1221 (fun v64 M69 => ?_)
                                                                refine J_icmp_eq (pc := 1224) 1534 dL_law_1224 rfl (fun h => if_pos h) (fun h => if_neg h) (fun _ => ?_) (fun _ => ?_)
                                                                · exact J_sub (A := [some (.ref 0), some (.ref 20), some (.ref 72), some (.ref 104), some (.int v1), none, none, none]) ⟨rfl, ⟨rfl, ⟨rfl, ⟨rfl, ⟨rfl, trivial⟩⟩⟩⟩⟩ (hj1 M69)
                                                                · refine J_iconst (pc := 1227) 0 dL_law_1227 (by decide) ?_
                                                                  exact J_zret (pc := 1228) rfl dL_law_1228
                                                              · refine J_ite (fun h_39_29 => ?_) (fun h_39_29 => ?_)
                                                                · refine J_tableIn (pc := 39) 1229 dL_law_39 (by rw [h_39_29]; decide) (by rw [h_39_29]; decide) (by rw [h_39_29]; rfl) rfl ?_
                                                                  refine J_aload_n (pc := 1229) dL_law_1229 rfl ?_
                                                                  refine J_aload_n (pc := 1230) dL_law_1230 rfl ?_
                                                                  refine J_iload (pc := 1231) dL_law_1231 rfl ?_
                                                                  refine J_iconst (pc := 1233) 1 dL_law_1233 (by decide) ?_
                                                                  refine J_iadd (pc := 1234) dL_law_1234 ?_
                                                                  refine J_ck (fun h95 => ?_)
                                                                  refine J_scld (pc := 1235) hsc h95 dL_law_1235 ?_
                                                                  refine J_callV (pc := 1236) (n := 1) (b := 20) (vs := [.int (sx (ix (v1 + 1)))]) (ci := 0) (fun l => C_x_best l (sx (ix (v1 + 1))) M6) (lw_V q912 q913 q914 q116 q915) nmv_X1_best rfl (by omega) (by decide) rfl (fun h => sh_k1 h 0 rfl) rfl (Nat.le_of_ble_eq_true rfl) dL_law_1236 (fun v65 M70 => ?_)
                                                                  refine J_aload_n (pc := 1239) dL_law_1239 rfl ?_
                                                                  refine J_aload_n (pc := 1240) dL_law_1240 rfl ?_
                                                                  refine J_iload (pc := 1241) dL_law_1241 rfl ?_
                                                                  refine J_iconst (pc := 1243) 1 dL_law_1243 (by decide) ?_
                                                                  refine J_iadd (pc := 1244) dL_law_1244 ?_
                                                                  refine J_ck (fun h96 => ?_)
                                                                  refine J_scld (pc := 1245) hsc h96 dL_law_1245 ?_
                                                                  refine J_callV (pc := 1246) (n := 1) (b := 72) (vs := [.int (sx (ix (v1 + 1)))]) (ci := 2) (fun l => C_m_best l (sx (ix (v1 + 1))) M70) (lw_V q1621 q1622 q1623 q118 q1624) nmv_X3_best rfl (by omega) (by decide) rfl (fun h => sh_k1 h 52 rfl) rfl (Nat.le_of_ble_eq_true rfl) dL_law_1246 (fun v66 M71 => ?_)
                                                                  refine J_icmp_eq (pc := 1249) 1534 dL_law_1249 rfl (fun h => if_pos h) (fun h => if_neg h) (fun _ => ?_) (fun _ => ?_)
                                                                  · exact J_sub (A := [some (.ref 0), some (.ref 20), some (.ref 72), some (.ref 104), some (.int v1), none, none, none]) ⟨rfl, ⟨rfl, ⟨rfl, ⟨rfl, ⟨rfl, trivial⟩⟩⟩⟩⟩ (hj1 M71)
                                                                  · refine J_iconst (pc := 1252) 0 dL_law_1252 (by decide) ?_
                                                                    exact J_zret (pc := 1253) rfl dL_law_1253
                                                                · refine J_ite (fun h_39_30 => ?_) (fun h_39_30 => ?_)
                                                                  · refine J_tableIn (pc := 39) 1254 dL_law_39 (by rw [h_39_30]; decide) (by rw [h_39_30]; decide) (by rw [h_39_30]; rfl) rfl ?_
                                                                    refine J_aload_n (pc := 1254) dL_law_1254 rfl ?_
                                                                    refine J_aload_n (pc := 1255) dL_law_1255 rfl ?_
                                                                    refine J_iload (pc := 1256) dL_law_1256 rfl ?_
                                                                    refine J_iconst (pc := 1258) 1 dL_law_1258 (by decide) ?_
                                                                    refine J_iadd (pc := 1259) dL_law_1259 ?_
                                                                    refine J_ck (fun h97 => ?_)
                                                                    refine J_scld (pc := 1260) hsc h97 dL_law_1260 ?_
                                                                    refine J_aload_n (pc := 1261) dL_law_1261 rfl ?_
                                                                    refine J_iload (pc := 1262) dL_law_1262 rfl ?_
                                                                    refine J_iconst (pc := 1264) 2 dL_law_1264 (by decide) ?_
                                                                    refine J_iadd (pc := 1265) dL_law_1265 ?_
                                                                    refine J_ck (fun h98 => ?_)
                                                                    refine J_scld (pc := 1266) hsc h98 dL_law_1266 ?_
                                                                    refine J_callV (pc := 1267) (n := 2) (b := 20) (vs := [.int (sx (ix (v1 + 1))), .int (sx (ix (v1 + 2)))]) (ci := 0) (fun l => C_x_takes l (sx (ix (v1 + 1))) (sx (ix (v1 + 2))) M6) (lw_V q924 q925 q926 q116 q927) nmv_X1_takes rfl (by omega) (by decide) rfl (fun h => sh_k1 h 0 rfl) rfl (Nat.le_of_ble_eq_true rfl) dL_law_1267 (fun v67 M72 => ?_)
                                                                    refine J_aload_n (pc := 1270) dL_law_1270 rfl ?_
                                                                    refine J_aload_n (pc := 1271) dL_law_1271 rfl ?_
                                                                    refine J_iload (pc := 1272) dL_law_1272 rfl ?_
                                                                    refine J_iconst (pc := 1274) 1 dL_law_1274 (by decide) ?_
                                                                    refine J_iadd (pc := 1275) dL_law_1275 ?_
                                                                    refine J_ck (fun h99 => ?_)
                                                                    refine J_scld (pc := 1276) hsc h99 dL_law_1276 ?_
                                                                    refine J_aload_n (pc := 1277) dL_law_1277 rfl ?_
                                                                    refine J_iload (pc := 1278) dL_law_1278 rfl ?_
                                                                    refine J_iconst (pc := 1280) 2 dL_law_1280 (by decide) ?_
                                                                    refine J_iadd (pc := 1281) dL_law_1281 ?_
                                                                    refine J_ck (fun h100 => ?_)
                                                                    refine J_scld (pc := 1282) hsc h100 dL_law_1282 ?_
                                                                    refine J_callV (pc := 1283) (n := 2) (b := 72) (vs := [.int (sx (ix (v1 + 1))), .int (sx (ix (v1 + 2)))]) (ci := 2) (fun l => C_m_takes l (sx (ix (v1 + 1))) (sx (ix (v1 + 2))) M72) (lw_V q1625 q1626 q1627 q118 q1628) nmv_X3_takes rfl (by omega) (by decide) rfl (fun h => sh_k1 h 52 rfl) rfl (Nat.le_of_ble_eq_true rfl) dL_law_1283 (fun v68 M73 => ?_)
                                                                    refine J_icmp_eq (pc := 1286) 1534 dL_law_1286 rfl (fun h => if_pos h) (fun h => if_neg h) (fun _ => ?_) (fun _ => ?_)
                                                                    · exact J_sub (A := [some (.ref 0), some (.ref 20), some (.ref 72), some (.ref 104), some (.int v1), none, none, none]) ⟨rfl, ⟨rfl, ⟨rfl, ⟨rfl, ⟨rfl, trivial⟩⟩⟩⟩⟩ (hj1 M73)
                                                                    · refine J_iconst (pc := 1289) 0 dL_law_1289 (by decide) ?_
                                                                      exact J_zret (pc := 1290) rfl dL_law_1290
                                                                  · refine J_ite (fun h_39_31 => ?_) (fun h_39_31 => ?_)
                                                                    · refine J_tableIn (pc := 39) 1291 dL_law_39 (by rw [h_39_31]; decide) (by rw [h_39_31]; decide) (by rw [h_39_31]; rfl) rfl ?_
                                                                      refine J_aload_n (pc := 1291) dL_law_1291 rfl ?_
                                                                      refine J_aload_n (pc := 1292) dL_law_1292 rfl ?_
                                                                      refine J_iload (pc := 1293) dL_law_1293 rfl ?_
                                                                      refine J_iconst (pc := 1295) 1 dL_law_1295 (by decide) ?_
                                                                      refine J_iadd (pc := 1296) dL_law_1296 ?_
                                                                      refine J_ck (fun h101 => ?_)
                                                                      refine J_scld (pc := 1297) hsc h101 dL_law_1297 ?_
                                                                      refine J_callV (pc := 1298) (n := 1) (b := 20) (vs := [.int (sx (ix (v1 + 1)))]) (ci := 0) (fun l => C_x_greed l (sx (ix (v1 + 1))) M6) (lw_V q932 q933 q934 q116 q935) nmv_X1_greed rfl (by omega) (by decide) rfl (fun h => sh_k1 h 0 rfl) rfl (Nat.le_of_ble_eq_true rfl) dL_law_1298 (fun v69 M74 => ?_)
                                                                      refine J_aload_n (pc := 1301) dL_law_1301 rfl ?_
                                                                      refine J_aload_n (pc := 1302) dL_law_1302 rfl ?_
                                                                      refine J_iload (pc := 1303) dL_law_1303 rfl ?_
                                                                      refine J_iconst (pc := 1305) 1 dL_law_1305 (by decide) ?_
                                                                      refine J_iadd (pc := 1306) dL_law_1306 ?_
                                                                      refine J_ck (fun h102 => ?_)
                                                                      refine J_scld (pc := 1307) hsc h102 dL_law_1307 ?_
                                                                      refine J_callV (pc := 1308) (n := 1) (b := 72) (vs := [.int (sx (ix (v1 + 1)))]) (ci := 2) (fun l => C_m_greed l (sx (ix (v1 + 1))) M74) (lw_V q1633 q1634 q1635 q118 q1636) nmv_X3_greed rfl (by omega) (by decide) rfl (fun h => sh_k1 h 52 rfl) rfl (Nat.le_of_ble_eq_true rfl) dL_law_1308 (fun v70 M75 => ?_)
                                                                      refine J_icmp_eq (pc := 1311) 1534 dL_law_1311 rfl (fun h => if_pos h) (fun h => if_neg h) (fun _ => ?_) (fun _ => ?_)
                                                                      · exact J_sub (A := [some (.ref 0), some (.ref 20), some (.ref 72), some (.ref 104), some (.int v1), none, none, none]) ⟨rfl, ⟨rfl, ⟨rfl, ⟨rfl, ⟨rfl, trivial⟩⟩⟩⟩⟩ (hj1 M75)
                                                                      · refine J_iconst (pc := 1314) 0 dL_law_1314 (by decide) ?_
                                                                        exact J_zret (pc := 1315) rfl dL_law_1315
                                                                    · refine J_ite (fun h_39_32 => ?_) (fun h_39_32 => ?_)
                                                                      · refine J_tableIn (pc := 39) 1316 dL_law_39 (by rw [h_39_32]; decide) (by rw [h_39_32]; decide) (by rw [h_39_32]; rfl) rfl ?_
                                                                        refine J_aload_n (pc := 1316) dL_law_1316 rfl ?_
                                                                        refine J_aload_n (pc := 1317) dL_law_1317 rfl ?_
                                                                        refine J_iload (pc := 1318) dL_law_1318 rfl ?_
                                                                        refine J_iconst (pc := 1320) 1 dL_law_1320 (by decide) ?_
                                                                        refine J_iadd (pc := 1321) dL_law_1321 ?_
                                                                        refine J_ck (fun h103 => ?_)
                                                                        refine J_scld (pc := 1322) hsc h103 dL_law_1322 ?_
                                                                        refine J_callV (pc := 1323) (n := 1) (b := 20) (vs := [.int (sx (ix (v1 + 1)))]) (ci := 0) (fun l => C_x_law l (sx (ix (v1 + 1))) M6) (lw_V q936 q937 q938 q116 q939) nmv_X1_law rfl (by omega) (by decide) rfl (fun h => sh_k1 h 0 rfl) rfl (Nat.le_of_ble_eq_true rfl) dL_law_1323 (fun v71 M76 => ?_)
                                                                        refine J_aload_n (pc := 1326) dL_law_1326 rfl ?_
                                                                        refine J_aload_n (pc := 1327) dL_law_1327 rfl ?_
                                                                        refine J_iload (pc := 1328) dL_law_1328 rfl ?_
                                                                        refine J_iconst (pc := 1330) 1 dL_law_1330 (by decide) ?_
                                                                        refine J_iadd (pc := 1331) dL_law_1331 ?_
                                                                        refine J_ck (fun h104 => ?_)
                                                                        refine J_scld (pc := 1332) hsc h104 dL_law_1332 ?_
                                                                        refine J_callV (pc := 1333) (n := 1) (b := 72) (vs := [.int (sx (ix (v1 + 1)))]) (ci := 2) (fun l => C_m_law l (sx (ix (v1 + 1))) M76) (lw_V q1637 q1638 q1639 q118 q1640) nmv_X3_law rfl (by omega) (by decide) rfl (fun h => sh_k1 h 52 rfl) rfl (Nat.le_of_ble_eq_true rfl) dL_law_1333 (fun v72 M77 => ?_)
                                                                        refine J_icmp_eq (pc := 1336) 1534 dL_law_1336 rfl (fun h => if_pos h) (fun h => if_neg h) (fun _ => ?_) (fun _ => ?_)
                                                                        · exact J_sub (A := [some (.ref 0), some (.ref 20), some (.ref 72), some (.ref 104), some (.int v1), none, none, none]) ⟨rfl, ⟨rfl, ⟨rfl, ⟨rfl, ⟨rfl, trivial⟩⟩⟩⟩⟩ (hj1 M77)
                                                                        · refine J_iconst (pc := 1339) 0 dL_law_1339 (by decide) ?_
                                                                          exact J_zret (pc := 1340) rfl dL_law_1340
                                                                      · refine J_ite (fun h_39_33 => ?_) (fun h_39_33 => ?_)
                                                                        · refine J_tableIn (pc := 39) 1341 dL_law_39 (by rw [h_39_33]; decide) (by rw [h_39_33]; decide) (by rw [h_39_33]; rfl) rfl ?_
                                                                          refine J_aload_n (pc := 1341) dL_law_1341 rfl ?_
                                                                          refine J_callV (pc := 1342) (n := 0) (b := 20) (vs := []) (ci := 0) (fun l => C_x_said l  M6) (lw_V q940 q941 q942 q116 q943) nmv_X1_said rfl (by omega) (by decide) rfl (fun h => sh_k1 h 0 rfl) rfl (Nat.le_of_ble_eq_true rfl) dL_law_1342 (fun v73 M78 => ?_)
                                                                          refine J_aload_n (pc := 1345) dL_law_1345 rfl ?_
                                                                          refine J_callV (pc := 1346) (n := 0) (b := 72) (vs := []) (ci := 2) (fun l => C_m_said l  M78) (lw_V q1641 q1642 q1643 q118 q1644) nmv_X3_said rfl (by omega) (by decide) rfl (fun h => sh_k1 h 52 rfl) rfl (Nat.le_of_ble_eq_true rfl) dL_law_1346 (fun v74 M79 => ?_)
                                                                          refine J_icmp_eq (pc := 1349) 1534 dL_law_1349 rfl (fun h => if_pos h) (fun h => if_neg h) (fun _ => ?_) (fun _ => ?_)
                                                                          · exact J_sub (A := [some (.ref 0), some (.ref 20), some (.ref 72), some (.ref 104), some (.int v1), none, none, none]) ⟨rfl, ⟨rfl, ⟨rfl, ⟨rfl, ⟨rfl, trivial⟩⟩⟩⟩⟩ (hj1 M79)
                                                                          · refine J_iconst (pc := 1352) 0 dL_law_1352 (by decide) ?_
                                                                            exact J_zret (pc := 1353) rfl dL_law_1353
                                                                        · refine J_ite (fun h_39_34 => ?_) (fun h_39_34 => ?_)
                                                                          · refine J_tableIn (pc := 39) 1354 dL_law_39 (by rw [h_39_34]; decide) (by rw [h_39_34]; decide) (by rw [h_39_34]; rfl) rfl ?_
                                                                            refine J_aload_n (pc := 1354) dL_law_1354 rfl ?_
                                                                            refine J_callV (pc := 1355) (n := 0) (b := 20) (vs := []) (ci := 0) (fun l => C_x_ask l  M6) (lw_V q960 q961 q962 q116 q963) nmv_X1_ask rfl (by omega) (by decide) rfl (fun h => sh_k1 h 0 rfl) rfl (Nat.le_of_ble_eq_true rfl) dL_law_1355 (fun v75 M80 => ?_)
                                                                            refine J_aload_n (pc := 1358) dL_law_1358 rfl ?_
                                                                            refine J_callV (pc := 1359) (n := 0) (b := 72) (vs := []) (ci := 2) (fun l => C_m_ask l  M80) (lw_V q1661 q1662 q1663 q118 q1664) nmv_X3_ask rfl (by omega) (by decide) rfl (fun h => sh_k1 h 52 rfl) rfl (Nat.le_of_ble_eq_true rfl) dL_law_1359 (fun v76 M81 => ?_)
                                                                            refine J_icmp_eq (pc := 1362) 1534 dL_law_1362 rfl (fun h => if_pos h) (fun h => if_neg h) (fun _ => ?_) (fun _ => ?_)
                                                                            · exact J_sub (A := [some (.ref 0), some (.ref 20), some (.ref 72), some (.ref 104), some (.int v1), none, none, none]) ⟨rfl, ⟨rfl, ⟨rfl, ⟨rfl, ⟨rfl, trivial⟩⟩⟩⟩⟩ (hj1 M81)
                                                                            · refine J_iconst (pc := 1365) 0 dL_law_1365 (by decide) ?_
                                                                              exact J_zret (pc := 1366) rfl dL_law_1366
                                                                          · refine J_ite (fun h_39_35 => ?_) (fun h_39_35 => ?_)
                                                                            · refine J_tableIn (pc := 39) 1367 dL_law_39 (by rw [h_39_35]; decide) (by rw [h_39_35]; decide) (by rw [h_39_35]; rfl) rfl ?_
                                                                              refine J_aload_n (pc := 1367) dL_law_1367 rfl ?_
                                                                              refine J_aload_n (pc := 1368) dL_law_1368 rfl ?_
                                                                              refine J_iload (pc := 1369) dL_law_1369 rfl ?_
                                                                              refine J_iconst (pc := 1371) 1 dL_law_1371 (by decide) ?_
                                                                              refine J_iadd (pc := 1372) dL_law_1372 ?_
                                                                              refine J_ck (fun h105 => ?_)
                                                                              refine J_scld (pc := 1373) hsc h105 dL_law_1373 ?_
                                                                              refine J_aload_n (pc := 1374) dL_law_1374 rfl ?_
                                                                              refine J_iload (pc := 1375) dL_law_1375 rfl ?_
                                                                              refine J_iconst (pc := 1377) 2 dL_law_1377 (by decide) ?_
                                                                              refine J_iadd (pc := 1378) dL_law_1378 ?_
                                                                              refine J_ck (fun h106 => ?_)
                                                                              refine J_scld (pc := 1379) hsc h106 dL_law_1379 ?_
                                                                              refine J_callV (pc := 1380) (n := 2) (b := 20) (vs := [.int (sx (ix (v1 + 1))), .int (sx (ix (v1 + 2)))]) (ci := 0) (fun l => C_x_years l (sx (ix (v1 + 1))) (sx (ix (v1 + 2))) M6) (lw_V q968 q969 q970 q116 q971) nmv_X1_years rfl (by omega) (by decide) rfl (fun h => sh_k1 h 0 rfl) rfl (Nat.le_of_ble_eq_true rfl) dL_law_1380 (fun v77 M82 => ?_)
                                                                              refine J_aload_n (pc := 1383) dL_law_1383 rfl ?_
                                                                              refine J_aload_n (pc := 1384) dL_law_1384 rfl ?_
                                                                              refine J_iload (pc := 1385) dL_law_1385 rfl ?_
                                                                              refine J_iconst (pc := 1387) 1 dL_law_1387 (by decide) ?_
                                                                              refine J_iadd (pc := 1388) dL_law_1388 ?_
                                                                              refine J_ck (fun h107 => ?_)
                                                                              refine J_scld (pc := 1389) hsc h107 dL_law_1389 ?_
                                                                              refine J_aload_n (pc := 1390) dL_law_1390 rfl ?_
                                                                              refine J_iload (pc := 1391) dL_law_1391 rfl ?_
                                                                              refine J_iconst (pc := 1393) 2 dL_law_1393 (by decide) ?_
                                                                              refine J_iadd (pc := 1394) dL_law_1394 ?_
                                                                              refine J_ck (fun h108 => ?_)
                                                                              refine J_scld (pc := 1395) hsc h108 dL_law_1395 ?_
                                                                              refine J_callV (pc := 1396) (n := 2) (b := 72) (vs := [.int (sx (ix (v1 + 1))), .int (sx (ix (v1 + 2)))]) (ci := 2) (fun l => C_m_years l (sx (ix (v1 + 1))) (sx (ix (v1 + 2))) M82) (lw_V q1665 q1666 q1667 q118 q1668) nmv_X3_years rfl (by omega) (by decide) rfl (fun h => sh_k1 h 52 rfl) rfl (Nat.le_of_ble_eq_true rfl) dL_law_1396 (fun v78 M83 => ?_)
                                                                              refine J_icmp_eq (pc := 1399) 1534 dL_law_1399 rfl (fun h => if_pos h) (fun h => if_neg h) (fun _ => ?_) (fun _ => ?_)
                                                                              · exact J_sub (A := [some (.ref 0), some (.ref 20), some (.ref 72), some (.ref 104), some (.int v1), none, none, none]) ⟨rfl, ⟨rfl, ⟨rfl, ⟨rfl, ⟨rfl, trivial⟩⟩⟩⟩⟩ (hj1 M83)
                                                                              · refine J_iconst (pc := 1402) 0 dL_law_1402 (by decide) ?_
                                                                                exact J_zret (pc := 1403) rfl dL_law_1403
                                                                            · refine J_ite (fun h_39_36 => ?_) (fun h_39_36 => ?_)
                                                                              · refine J_tableIn (pc := 39) 1404 dL_law_39 (by rw [h_39_36]; decide) (by rw [h_39_36]; decide) (by rw [h_39_36]; rfl) rfl ?_
                                                                                refine J_aload_n (pc := 1404) dL_law_1404 rfl ?_
                                                                                refine J_aload_n (pc := 1405) dL_law_1405 rfl ?_
                                                                                refine J_iload (pc := 1406) dL_law_1406 rfl ?_
                                                                                refine J_iconst (pc := 1408) 1 dL_law_1408 (by decide) ?_
                                                                                refine J_iadd (pc := 1409) dL_law_1409 ?_
                                                                                refine J_ck (fun h109 => ?_)
                                                                                refine J_scld (pc := 1410) hsc h109 dL_law_1410 ?_
                                                                                refine J_callV (pc := 1411) (n := 1) (b := 20) (vs := [.int (sx (ix (v1 + 1)))]) (ci := 0) (fun l => C_x_keep l (sx (ix (v1 + 1))) M6) (lw_V q978 q979 q980 q116 q981) nmv_X1_keep rfl (by omega) (by decide) rfl (fun h => sh_k1 h 0 rfl) rfl (Nat.le_of_ble_eq_true rfl) dL_law_1411 (fun v79 M84 => ?_)
                                                                                refine J_aload_n (pc := 1414) dL_law_1414 rfl ?_
                                                                                refine J_aload_n (pc := 1415) dL_law_1415 rfl ?_
                                                                                refine J_iload (pc := 1416) dL_law_1416 rfl ?_
                                                                                refine J_iconst (pc := 1418) 1 dL_law_1418 (by decide) ?_
                                                                                refine J_iadd (pc := 1419) dL_law_1419 ?_
                                                                                refine J_ck (fun h110 => ?_)
                                                                                refine J_scld (pc := 1420) hsc h110 dL_law_1420 ?_
                                                                                refine J_callV (pc := 1421) (n := 1) (b := 72) (vs := [.int (sx (ix (v1 + 1)))]) (ci := 2) (fun l => C_m_keep l (sx (ix (v1 + 1))) M84) (lw_V q1674 q1675 q1676 q118 q1677) nmv_X3_keep rfl (by omega) (by decide) rfl (fun h => sh_k1 h 52 rfl) rfl (Nat.le_of_ble_eq_true rfl) dL_law_1421 (fun v80 M85 => ?_)
                                                                                refine J_icmp_eq (pc := 1424) 1534 dL_law_1424 rfl (fun h => if_pos h) (fun h => if_neg h) (fun _ => ?_) (fun _ => ?_)
                                                                                · exact J_sub (A := [some (.ref 0), some (.ref 20), some (.ref 72), some (.ref 104), some (.int v1), none, none, none]) ⟨rfl, ⟨rfl, ⟨rfl, ⟨rfl, ⟨rfl, trivial⟩⟩⟩⟩⟩ (hj1 M85)
                                                                                · refine J_iconst (pc := 1427) 0 dL_law_1427 (by decide) ?_
                                                                                  exact J_zret (pc := 1428) rfl dL_law_1428
                                                                              · refine J_ite (fun h_39_37 => ?_) (fun h_39_37 => ?_)
                                                                                · refine J_tableIn (pc := 39) 1429 dL_law_39 (by rw [h_39_37]; decide) (by rw [h_39_37]; decide) (by rw [h_39_37]; rfl) rfl ?_
                                                                                  refine J_aload_n (pc := 1429) dL_law_1429 rfl ?_
                                                                                  refine J_aload_n (pc := 1430) dL_law_1430 rfl ?_
                                                                                  refine J_iload (pc := 1431) dL_law_1431 rfl ?_
                                                                                  refine J_iconst (pc := 1433) 1 dL_law_1433 (by decide) ?_
                                                                                  refine J_iadd (pc := 1434) dL_law_1434 ?_
                                                                                  refine J_ck (fun h111 => ?_)
                                                                                  refine J_scld (pc := 1435) hsc h111 dL_law_1435 ?_
                                                                                  refine J_callV (pc := 1436) (n := 1) (b := 20) (vs := [.int (sx (ix (v1 + 1)))]) (ci := 0) (fun l => C_x_again l (sx (ix (v1 + 1))) M6) (lw_V q982 q983 q984 q116 q985) nmv_X1_again rfl (by omega) (by decide) rfl (fun h => sh_k1 h 0 rfl) rfl (Nat.le_of_ble_eq_true rfl) dL_law_1436 (fun v81 M86 => ?_)
                                                                                  refine J_aload_n (pc := 1439) dL_law_1439 rfl ?_
                                                                                  refine J_aload_n (pc := 1440) dL_law_1440 rfl ?_
                                                                                  refine J_iload (pc := 1441) dL_law_1441 rfl ?_
                                                                                  refine J_iconst (pc := 1443) 1 dL_law_1443 (by decide) ?_
                                                                                  refine J_iadd (pc := 1444) dL_law_1444 ?_
                                                                                  refine J_ck (fun h112 => ?_)
                                                                                  refine J_scld (pc := 1445) hsc h112 dL_law_1445 ?_
                                                                                  refine J_callV (pc := 1446) (n := 1) (b := 72) (vs := [.int (sx (ix (v1 + 1)))]) (ci := 2) (fun l => C_m_again l (sx (ix (v1 + 1))) M86) (lw_V q1678 q1679 q1680 q118 q1681) nmv_X3_again rfl (by omega) (by decide) rfl (fun h => sh_k1 h 52 rfl) rfl (Nat.le_of_ble_eq_true rfl) dL_law_1446 (fun v82 M87 => ?_)
                                                                                  refine J_icmp_eq (pc := 1449) 1534 dL_law_1449 rfl (fun h => if_pos h) (fun h => if_neg h) (fun _ => ?_) (fun _ => ?_)
                                                                                  · exact J_sub (A := [some (.ref 0), some (.ref 20), some (.ref 72), some (.ref 104), some (.int v1), none, none, none]) ⟨rfl, ⟨rfl, ⟨rfl, ⟨rfl, ⟨rfl, trivial⟩⟩⟩⟩⟩ (hj1 M87)
                                                                                  · refine J_iconst (pc := 1452) 0 dL_law_1452 (by decide) ?_
                                                                                    exact J_zret (pc := 1453) rfl dL_law_1453
                                                                                · refine J_ite (fun h_39_38 => ?_) (fun h_39_38 => ?_)
                                                                                  · refine J_tableIn (pc := 39) 1454 dL_law_39 (by rw [h_39_38]; decide) (by rw [h_39_38]; decide) (by rw [h_39_38]; rfl) rfl ?_
                                                                                    refine J_aload_n (pc := 1454) dL_law_1454 rfl ?_
                                                                                    refine J_aload_n (pc := 1455) dL_law_1455 rfl ?_
                                                                                    refine J_iload (pc := 1456) dL_law_1456 rfl ?_
                                                                                    refine J_iconst (pc := 1458) 1 dL_law_1458 (by decide) ?_
                                                                                    refine J_iadd (pc := 1459) dL_law_1459 ?_
                                                                                    refine J_ck (fun h113 => ?_)
                                                                                    refine J_scld (pc := 1460) hsc h113 dL_law_1460 ?_
                                                                                    refine J_callV (pc := 1461) (n := 1) (b := 20) (vs := [.int (sx (ix (v1 + 1)))]) (ci := 0) (fun l => C_x_count l (sx (ix (v1 + 1))) M6) (lw_V q986 q987 q988 q116 q989) nmv_X1_count rfl (by omega) (by decide) rfl (fun h => sh_k1 h 0 rfl) rfl (Nat.le_of_ble_eq_true rfl) dL_law_1461 (fun v83 M88 => ?_)
                                                                                    refine J_aload_n (pc := 1464) dL_law_1464 rfl ?_
                                                                                    refine J_aload_n (pc := 1465) dL_law_1465 rfl ?_
                                                                                    refine J_iload (pc := 1466) dL_law_1466 rfl ?_
                                                                                    refine J_iconst (pc := 1468) 1 dL_law_1468 (by decide) ?_
                                                                                    refine J_iadd (pc := 1469) dL_law_1469 ?_
                                                                                    refine J_ck (fun h114 => ?_)
                                                                                    refine J_scld (pc := 1470) hsc h114 dL_law_1470 ?_
                                                                                    refine J_callV (pc := 1471) (n := 1) (b := 72) (vs := [.int (sx (ix (v1 + 1)))]) (ci := 2) (fun l => C_m_count l (sx (ix (v1 + 1))) M88) (lw_V q1682 q1683 q1684 q118 q1685) nmv_X3_count rfl (by omega) (by decide) rfl (fun h => sh_k1 h 52 rfl) rfl (Nat.le_of_ble_eq_true rfl) dL_law_1471 (fun v84 M89 => ?_)
                                                                                    refine J_icmp_eq (pc := 1474) 1534 dL_law_1474 rfl (fun h => if_pos h) (fun h => if_neg h) (fun _ => ?_) (fun _ => ?_)
                                                                                    · exact J_sub (A := [some (.ref 0), some (.ref 20), some (.ref 72), some (.ref 104), some (.int v1), none, none, none]) ⟨rfl, ⟨rfl, ⟨rfl, ⟨rfl, ⟨rfl, trivial⟩⟩⟩⟩⟩ (hj1 M89)
                                                                                    · refine J_iconst (pc := 1477) 0 dL_law_1477 (by decide) ?_
                                                                                      exact J_zret (pc := 1478) rfl dL_law_1478
                                                                                  · refine J_ite (fun h_39_39 => ?_) (fun h_39_39 => ?_)
                                                                                    · refine J_tableIn (pc := 39) 1479 dL_law_39 (by rw [h_39_39]; decide) (by rw [h_39_39]; decide) (by rw [h_39_39]; rfl) rfl ?_
                                                                                      refine J_aload_n (pc := 1479) dL_law_1479 rfl ?_
                                                                                      refine J_aload_n (pc := 1480) dL_law_1480 rfl ?_
                                                                                      refine J_iload (pc := 1481) dL_law_1481 rfl ?_
                                                                                      refine J_iconst (pc := 1483) 1 dL_law_1483 (by decide) ?_
                                                                                      refine J_iadd (pc := 1484) dL_law_1484 ?_
                                                                                      refine J_ck (fun h115 => ?_)
                                                                                      refine J_scld (pc := 1485) hsc h115 dL_law_1485 ?_
                                                                                      refine J_aload_n (pc := 1486) dL_law_1486 rfl ?_
                                                                                      refine J_callSH (pc := 1487) (n := 3) (vs := [.ref 20, .int (sx (ix (v1 + 1))), .ref 104]) hl9 (fun l hl => C_lw_row l hl (sx (ix (v1 + 1))) M6) (lw_SW q1094 q1095 q115 q1096) nmh_X0_row rfl (by omega) (by decide) rfl (Nat.le_of_ble_eq_true rfl) dL_law_1487 (fun v85 M90 => ?_)
                                                                                      refine J_istore (pc := 1490) dL_law_1490 (by decide) ?_
                                                                                      refine J_aload_n (pc := 1492) dL_law_1492 rfl ?_
                                                                                      refine J_aload_n (pc := 1493) dL_law_1493 rfl ?_
                                                                                      refine J_iload (pc := 1494) dL_law_1494 rfl ?_
                                                                                      refine J_iconst (pc := 1496) 1 dL_law_1496 (by decide) ?_
                                                                                      refine J_iadd (pc := 1497) dL_law_1497 ?_
                                                                                      refine J_ck (fun h116 => ?_)
                                                                                      refine J_scld (pc := 1498) hsc h116 dL_law_1498 ?_
                                                                                      refine J_callV (pc := 1499) (n := 1) (b := 72) (vs := [.int (sx (ix (v1 + 1)))]) (ci := 2) (fun l => C_m_row l (sx (ix (v1 + 1))) M90) (lw_V q1690 q1691 q1692 q118 q1693) nmv_X3_row rfl (by omega) (by decide) rfl (fun h => sh_k1 h 52 rfl) rfl (Nat.le_of_ble_eq_true rfl) dL_law_1499 (fun w1 M91 => ?_)
                                                                                      refine J_lstore (pc := 1502) dL_law_1502 (by decide) ?_
                                                                                      refine J_aload_n (pc := 1504) dL_law_1504 rfl ?_
                                                                                      refine J_callV (pc := 1505) (n := 0) (b := 72) (vs := []) (ci := 2) (fun l => C_m_thrown l  M91) (lw_V q1277 q1278 q1279 q118 q1280) nmv_X3_thrown rfl (by omega) (by decide) rfl (fun h => sh_k1 h 52 rfl) rfl (Nat.le_of_ble_eq_true rfl) dL_law_1505 (fun v86 M92 => ?_)
                                                                                      refine J_iload (pc := 1508) dL_law_1508 rfl ?_
                                                                                      refine J_icmp_eq (pc := 1510) 1515 dL_law_1510 rfl (fun h => if_pos h) (fun h => if_neg h) (fun _ => ?_) (fun _ => ?_)
                                                                                      · refine J_iload (pc := 1515) dL_law_1515 rfl ?_
                                                                                        refine J_if_ne (pc := 1517) 1531 dL_law_1517 rfl (fun h => if_neg h) (fun h => if_pos h) (fun _ => ?_) (fun _ => ?_)
                                                                                        · refine J_goto (pc := 1531) 1534 dL_law_1531 rfl ?_
                                                                                          exact J_sub (A := [some (.ref 0), some (.ref 20), some (.ref 72), some (.ref 104), some (.int v1), none, none, none]) ⟨rfl, ⟨rfl, ⟨rfl, ⟨rfl, ⟨rfl, trivial⟩⟩⟩⟩⟩ (hj1 M92)
                                                                                        · refine J_aload_n (pc := 1520) dL_law_1520 rfl ?_
                                                                                          refine J_iconst (pc := 1521) 0 dL_law_1521 (by decide) ?_
                                                                                          refine J_ck (fun h117 => ?_)
                                                                                          refine J_lald (pc := 1522) (a := 104) (fun h => sh_a h 84 rfl h117) dL_law_1522 ?_
                                                                                          refine J_lload (pc := 1523) dL_law_1523 rfl ?_
                                                                                          refine J_lcmp (pc := 1525) dL_law_1525 ?_
                                                                                          refine J_if_eq (pc := 1526) 1531 dL_law_1526 rfl (fun h => if_pos h) (fun h => if_neg h) (fun _ => ?_) (fun _ => ?_)
                                                                                          · refine J_goto (pc := 1531) 1534 dL_law_1531 rfl ?_
                                                                                            exact J_sub (A := [some (.ref 0), some (.ref 20), some (.ref 72), some (.ref 104), some (.int v1), none, none, none]) ⟨rfl, ⟨rfl, ⟨rfl, ⟨rfl, ⟨rfl, trivial⟩⟩⟩⟩⟩ (hj1 M92)
                                                                                          · refine J_iconst (pc := 1529) 0 dL_law_1529 (by decide) ?_
                                                                                            exact J_zret (pc := 1530) rfl dL_law_1530
                                                                                      · refine J_iconst (pc := 1513) 0 dL_law_1513 (by decide) ?_
                                                                                        exact J_zret (pc := 1514) rfl dL_law_1514
                                                                                    · refine J_tableD (pc := 39) 1534 dL_law_39 rfl (by decide) (by decide) [0, 1, 2, 3, 4, 5, 6, 7, 8, 9, 10, 11, 12, 13, 14, 15, 16, 17, 18, 19, 20, 21, 22, 23, 24, 25, 26, 27, 28, 29, 30, 31, 32, 33, 34, 35, 36, 37, 38, 39] (by decide +kernel) (by simp only [List.mem_cons, List.not_mem_nil, or_false, forall_eq_or_imp, forall_eq]; exact ⟨fun q => h_39_0 (i32_of q), fun q => h_39_1 (i32_of q), fun q => h_39_2 (i32_of q), fun q => h_39_3 (i32_of q), fun q => h_39_4 (i32_of q), fun q => h_39_5 (i32_of q), fun q => h_39_6 (i32_of q), fun q => h_39_7 (i32_of q), fun q => h_39_8 (i32_of q), fun q => h_39_9 (i32_of q), fun q => h_39_10 (i32_of q), fun q => h_39_11 (i32_of q), fun q => h_39_12 (i32_of q), fun q => h_39_13 (i32_of q), fun q => h_39_14 (i32_of q), fun q => h_39_15 (i32_of q), fun q => h_39_16 (i32_of q), fun q => h_39_17 (i32_of q), fun q => h_39_18 (i32_of q), fun q => h_39_19 (i32_of q), fun q => h_39_20 (i32_of q), fun q => h_39_21 (i32_of q), fun q => h_39_22 (i32_of q), fun q => h_39_23 (i32_of q), fun q => h_39_24 (i32_of q), fun q => h_39_25 (i32_of q), fun q => h_39_26 (i32_of q), fun q => h_39_27 (i32_of q), fun q => h_39_28 (i32_of q), fun q => h_39_29 (i32_of q), fun q => h_39_30 (i32_of q), fun q => h_39_31 (i32_of q), fun q => h_39_32 (i32_of q), fun q => h_39_33 (i32_of q), fun q => h_39_34 (i32_of q), fun q => h_39_35 (i32_of q), fun q => h_39_36 (i32_of q), fun q => h_39_37 (i32_of q), fun q => h_39_38 (i32_of q), fun q => h_39_39 (i32_of q)⟩) ?_
                                                                                      exact J_sub (A := [some (.ref 0), some (.ref 20), some (.ref 72), some (.ref 104), some (.int v1), none, none, none]) ⟨rfl, ⟨rfl, ⟨rfl, ⟨rfl, ⟨rfl, trivial⟩⟩⟩⟩⟩ (hj1 M6)

def lw_law (sL : Nat) (sx : Nat → Int32) (M : PM) : Option (Int32 × PM) :=
    ckb (M.n = 20) <|
    lt (M.nw 0 0 68) fun M1 =>
    bd (x_init_i M1) fun _ M2 =>
    ckb (M2.n = 72) <|
    lt (M2.nw 2 0 56) fun M3 =>
    bd (m_init_i M3) fun _ M4 =>
    ckb (M4.n = 104) <|
    lt (M4.nw 23 1 1) fun M5 =>
    ckb (ShD M5 = true) <|
    lw_law_L23 sL sx FU 0 M5

set_option maxHeartbeats 4000000 in
theorem t_lw_law (G : JG) (sL : Nat) (sx : Nat → Int32) (hl9 : (gl G).stackTraces = false) (hsc : SC G sL sx) (M : PM) : JJ G cL_law x 8 147 (some .boolean) Tt (finR G Sh rvI) M 0 (ent [.ref 0] 8) [] (lw_law sL sx M) := by
  unfold lw_law
  refine J_ckb (fun h1 => ?_)
  refine J_newAt h1 (pc := 0) (c := 0) rfl in_X1 tyX1_ok q136 q137 q116 df_X1 (fun h => Tt_nw h) dL_law_0 ?_
  refine J_ltM (fun M1 => ?_)
  refine J_dup (pc := 3) dL_law_3 rfl ?_
  refine J_callI (pc := 4) (n := 0) (b := 20) (vs := []) (fun l => C_x_init_i l  M1) (lw_meth q140) q116 q138 q139 rfl nmh_X1_init rfl (by omega) (by decide) rfl (Nat.le_of_ble_eq_true rfl) dL_law_4 (fun _u M2 => ?_)
  refine J_astore_n (pc := 7) dL_law_7 (by decide) ?_
  refine J_ckb (fun h2 => ?_)
  refine J_newAt h2 (pc := 8) (c := 2) rfl in_X3 tyX3_ok q1101 q1102 q118 df_X3 (fun h => Tt_nw h) dL_law_8 ?_
  refine J_ltM (fun M3 => ?_)
  refine J_dup (pc := 11) dL_law_11 rfl ?_
  refine J_callI (pc := 12) (n := 0) (b := 72) (vs := []) (fun l => C_m_init_i l  M3) (lw_meth q1105) q118 q1103 q1104 rfl nmh_X3_init rfl (by omega) (by decide) rfl (Nat.le_of_ble_eq_true rfl) dL_law_12 (fun _u M4 => ?_)
  refine J_astore_n (pc := 15) dL_law_15 (by decide) ?_
  refine J_iconst (pc := 16) 1 dL_law_16 (by decide) ?_
  refine J_ckb (fun h3 => ?_)
  refine J_newaAt h3 (pc := 17) (atype := .long) (c := 23) (N := 1) (by decide) (by decide) rfl q389 (by decide) (by decide) (Nat.le_of_ble_eq_true rfl) (fun _ _ => nw_d23) (fun h => Tt_nw h) dL_law_17 ?_
  refine J_ltM (fun M5 => ?_)
  refine J_astore_n (pc := 19) dL_law_19 (by decide) ?_
  refine J_ckb (fun hsh => ?_)
  refine J_toSh (ShD_sh hsh) ?_
  refine J_iconst (pc := 20) 0 dL_law_20 (by decide) ?_
  refine J_istore (pc := 21) dL_law_21 (by decide) ?_
  refine J_sub (A := [some (.ref 0), some (.ref 20), some (.ref 72), some (.ref 104), some (.int 0), none, none, none]) ⟨rfl, ⟨rfl, ⟨rfl, ⟨rfl, ⟨rfl, trivial⟩⟩⟩⟩⟩ (t_lw_law_L23 G sL sx  hl9 hsc FU 0 M5)

