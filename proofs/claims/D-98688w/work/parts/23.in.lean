set_option maxRecDepth 100000
def ShD (M : PM) : Bool := decide (105 ≤ M.n) && (List.range 85).all (fun j => decide (shL[j]? = some (M.k (20 + j)))) && shR.all (fun q => decide (M.r q.1 q.2.1 = some q.2.2))
theorem ShD_sh {M : PM} (h : ShD M = true) : Sh M := by
  simp only [ShD, Bool.and_eq_true, decide_eq_true_eq] at h
  refine ⟨h.1.1, fun j q hq => ?_, fun q hq => of_decide_eq_true (List.all_eq_true.mp h.2 q hq)⟩
  have h1 := List.all_eq_true.mp h.1.2 j (List.mem_range.mpr (by rw [← shL_len]; exact (List.getElem?_eq_some_iff.mp hq).1))
  have h2 := of_decide_eq_true h1
  exact (Option.some.inj (hq.symm.trans h2)).symm
section JI
variable {α : Type} {G : JG} {cc : ByteArray} {y : MethodName} {nL D : Nat} {ret : Option FieldType} {I : PM → Prop} {fin : α → PM → State → Prop} {M : PM} {pc : Nat} {L : List (Option Value)} {S : List Value} {o : Option (α × PM)}
theorem J_toSh (h : Sh M) (k : JJ G cc y nL D ret Sh fin M pc L S o) : JJ G cc y nL D ret Tt fin M pc L S o := by
  obtain ⟨p, l, e, R, s, m, args, below, meth, c, E, M0⟩ := G
  intro r Me ho
  obtain ⟨h1, h2⟩ := k r Me ho
  exact ⟨h1, fun cx a b u v i H locs ls hR hS hl => h2 cx a b u v h H locs ls hR hS hl⟩
theorem J_newAt {a c index : Nat} {C : String} {T : u_T} {N : Nat} (hn : M.n = a) (hc : vwCl[c]? = some (C, T, N)) (hin : ∀ w ∈ u_ws C T N, w ∈ lw_all) (hty : ∀ k, k < N → parseFieldDescriptor (T k).2.2.1 = some (fTy c k)) (hcl : Cond.classLink y.cls index C ∈ lw_all) (hins : Cond.instantiable C N ∈ lw_all) (hini : Cond.initialized C ∈ lw_all) (hdef : ∀ k, k < N → fTy c k = .int ∨ fTy c k = .boolean ∨ fTy c k = .char ∨ (∃ n, fTy c k = .object n) ∨ ∃ t, fTy c k = .array t)
    (hI : I M → I (M.nw c 0 N)) (d : decode cc pc = .ok (.new index, 3)) (kk : JJ G cc y nL D ret I fin (M.nw c 0 N) (pc + 3) L (.ref a :: S) o) : JJ G cc y nL D ret I fin M pc L S o := by
  subst hn
  exact J_new hc hin hty hcl hins hini hdef hI d kk
theorem J_newaAt {a : Nat} {atype : ArrayType} {c N : Nat} {n : Int32} (ha : M.n = a) (h20 : 20 ≤ c) (h25 : c < 24) (hty : newarray.typeOf atype = aTy c) (harr : Cond.arrayClass (aTy c) ∈ lw_all) (hn : ¬ n < 0) (hN : n.toNatClampNeg = N) (hb : N * componentBytes (aTy c) ≤ 536870912) (hdef : ∀ ad j, fv (aTy c) (M.nw c N N) ad M.n j = defaultValue (aTy c)) (hI : I M → I (M.nw c N N)) (d : decode cc pc = .ok (.newarray atype, 2)) (kk : JJ G cc y nL D ret I fin (M.nw c N N) (pc + 2) L (.ref a :: S) o) : JJ G cc y nL D ret I fin M pc L (.int n :: S) o := by
  subst ha
  exact J_newa h20 h25 hty harr hn hN hb hdef hI d kk
end JI
abbrev T_rd_init_i (G : JG) (M : PM) (pc : Nat) (L : List (Option Value)) (S : List Value) (o : Option (Unit × PM)) : Prop := JJ G cX2_init yX2_init 1 1 none Tt (finR G Tt rvU) M pc L S o
def rd_init_i (p0 : Nat) (M : PM) : Option (Unit × PM) :=
    lt (M.nw 20 4 4) fun M1 =>
    ckk M1 p0 1 <|
    lt (M1.sr p0 0 (some M.n)) fun M2 =>
    lt (M2.nw 20 4 4) fun M3 =>
    ckk M3 p0 1 <|
    lt (M3.sr p0 1 (some M2.n)) fun M4 =>
    lt (M4.nw 20 4 4) fun M5 =>
    ckk M5 p0 1 <|
    lt (M5.sr p0 2 (some M4.n)) fun M6 =>
    lt (M6.nw 20 30 30) fun M7 =>
    ckk M7 p0 1 <|
    lt (M7.sr p0 3 (some M6.n)) fun M8 =>
    some ((), M8)

set_option maxHeartbeats 4000000 in
theorem t_rd_init_i (G : JG) (p0 : Nat) (M : PM) : T_rd_init_i G  M 0 (ent [.ref p0] 1) [] (rd_init_i p0 M) := by
  unfold rd_init_i
  refine J_aload_n (pc := 0) dX2_init_0 rfl ?_
  refine J_obj (pc := 1) (by omega) q149 q142 q143 (by decide) dX2_init_1 ?_
  refine J_aload_n (pc := 4) dX2_init_4 rfl ?_
  refine J_iconst (pc := 5) 4 dX2_init_5 (by decide) ?_
  refine J_newa (pc := 6) (atype := .int) (c := 20) (N := 4) (by decide) (by decide) rfl q175 (by decide) (by decide) (Nat.le_of_ble_eq_true rfl) (fun _ _ => nw_d20) (fun h => Tt_nw h) dX2_init_6 ?_
  refine J_ltM (fun M1 => ?_)
  refine J_ckk (fun h1 => ?_)
  refine J_put (pc := 8) (a := p0) (v := va_rf (some M.n)) (M' := M1.sr p0 0 (some M.n)) (c := 1) rfl in_X2 tyX2_ok fnX2 0 (by decide) q150 rfl (Or.inr ⟨rfl, rfl, rfl⟩) (fun _ => h1) (fun ad => (nrw_r _ (Or.inr ⟨_, rfl⟩) (some M.n) ad).1) (fun ad => (nrw_r _ (Or.inr ⟨_, rfl⟩) (some M.n) ad).2) ⟨⟨rfl, rfl⟩, rfl⟩ (fun _ _ => rfl) (fun _ _ => rfl) (fun _ hb => up2_same hb) (put_r (fun _ _ _ => rfl)) (fun h => Tt_sr h trivial) dX2_init_8 ?_
  refine J_ltM (fun M2 => ?_)
  refine J_aload_n (pc := 11) dX2_init_11 rfl ?_
  refine J_iconst (pc := 12) 4 dX2_init_12 (by decide) ?_
  refine J_newa (pc := 13) (atype := .int) (c := 20) (N := 4) (by decide) (by decide) rfl q175 (by decide) (by decide) (Nat.le_of_ble_eq_true rfl) (fun _ _ => nw_d20) (fun h => Tt_nw h) dX2_init_13 ?_
  refine J_ltM (fun M3 => ?_)
  refine J_ckk (fun h3 => ?_)
  refine J_put (pc := 15) (a := p0) (v := va_rf (some M2.n)) (M' := M3.sr p0 1 (some M2.n)) (c := 1) rfl in_X2 tyX2_ok fnX2 1 (by decide) q152 rfl (Or.inr ⟨rfl, rfl, rfl⟩) (fun _ => h3) (fun ad => (nrw_r _ (Or.inr ⟨_, rfl⟩) (some M2.n) ad).1) (fun ad => (nrw_r _ (Or.inr ⟨_, rfl⟩) (some M2.n) ad).2) ⟨⟨rfl, rfl⟩, rfl⟩ (fun _ _ => rfl) (fun _ _ => rfl) (fun _ hb => up2_same hb) (put_r (fun _ _ _ => rfl)) (fun h => Tt_sr h trivial) dX2_init_15 ?_
  refine J_ltM (fun M4 => ?_)
  refine J_aload_n (pc := 18) dX2_init_18 rfl ?_
  refine J_iconst (pc := 19) 4 dX2_init_19 (by decide) ?_
  refine J_newa (pc := 20) (atype := .int) (c := 20) (N := 4) (by decide) (by decide) rfl q175 (by decide) (by decide) (Nat.le_of_ble_eq_true rfl) (fun _ _ => nw_d20) (fun h => Tt_nw h) dX2_init_20 ?_
  refine J_ltM (fun M5 => ?_)
  refine J_ckk (fun h5 => ?_)
  refine J_put (pc := 22) (a := p0) (v := va_rf (some M4.n)) (M' := M5.sr p0 2 (some M4.n)) (c := 1) rfl in_X2 tyX2_ok fnX2 2 (by decide) q154 rfl (Or.inr ⟨rfl, rfl, rfl⟩) (fun _ => h5) (fun ad => (nrw_r _ (Or.inr ⟨_, rfl⟩) (some M4.n) ad).1) (fun ad => (nrw_r _ (Or.inr ⟨_, rfl⟩) (some M4.n) ad).2) ⟨⟨rfl, rfl⟩, rfl⟩ (fun _ _ => rfl) (fun _ _ => rfl) (fun _ hb => up2_same hb) (put_r (fun _ _ _ => rfl)) (fun h => Tt_sr h trivial) dX2_init_22 ?_
  refine J_ltM (fun M6 => ?_)
  refine J_aload_n (pc := 25) dX2_init_25 rfl ?_
  refine J_bipush (pc := 26) 30 dX2_init_26 (by decide) ?_
  refine J_newa (pc := 28) (atype := .int) (c := 20) (N := 30) (by decide) (by decide) rfl q175 (by decide) (by decide) (Nat.le_of_ble_eq_true rfl) (fun _ _ => nw_d20) (fun h => Tt_nw h) dX2_init_28 ?_
  refine J_ltM (fun M7 => ?_)
  refine J_ckk (fun h7 => ?_)
  refine J_put (pc := 30) (a := p0) (v := va_rf (some M6.n)) (M' := M7.sr p0 3 (some M6.n)) (c := 1) rfl in_X2 tyX2_ok fnX2 3 (by decide) q156 rfl (Or.inr ⟨rfl, rfl, rfl⟩) (fun _ => h7) (fun ad => (nrw_r _ (Or.inr ⟨_, rfl⟩) (some M6.n) ad).1) (fun ad => (nrw_r _ (Or.inr ⟨_, rfl⟩) (some M6.n) ad).2) ⟨⟨rfl, rfl⟩, rfl⟩ (fun _ _ => rfl) (fun _ _ => rfl) (fun _ hb => up2_same hb) (put_r (fun _ _ _ => rfl)) (fun h => Tt_sr h trivial) dX2_init_30 ?_
  refine J_ltM (fun M8 => ?_)
  exact J_ret (pc := 33) dX2_init_33

theorem C_rd_init_i (l : Launch) (p0 : Nat) (M : PM) : Ctr l Tt yX2_init cX2_init 1 none 1 rvU [.ref p0] M (rd_init_i p0 M) := Ctr.of (by decide +kernel) (Nat.le_of_ble_eq_true rfl) (fun G => t_rd_init_i G p0 M)

abbrev T_x_init_i (G : JG) (M : PM) (pc : Nat) (L : List (Option Value)) (S : List Value) (o : Option (Unit × PM)) : Prop := JJ G cX1_init yX1_init 1 2 none Tt (finR G Tt rvU) M pc L S o
def x_init_i (M : PM) : Option (Unit × PM) :=
    lt (M.nw 1 0 6) fun M1 =>
    bd (rd_init_i M.n M1) fun _ M2 =>
    ckk M2 20 0 <|
    lt (M2.sr 20 0 (some M.n)) fun M3 =>
    lt (M3.nw 1 0 6) fun M4 =>
    bd (rd_init_i M3.n M4) fun _ M5 =>
    ckk M5 20 0 <|
    lt (M5.sr 20 1 (some M3.n)) fun M6 =>
    lt (M6.nw 20 60 60) fun M7 =>
    ckk M7 20 0 <|
    lt (M7.sr 20 2 (some M6.n)) fun M8 =>
    lt (M8.nw 20 10 10) fun M9 =>
    ckk M9 20 0 <|
    lt (M9.sr 20 3 (some M8.n)) fun M10 =>
    lt (M10.nw 20 10 10) fun M11 =>
    ckk M11 20 0 <|
    lt (M11.sr 20 4 (some M10.n)) fun M12 =>
    lt (M12.nw 20 10 10) fun M13 =>
    ckk M13 20 0 <|
    lt (M13.sr 20 5 (some M12.n)) fun M14 =>
    lt (M14.nw 20 8 8) fun M15 =>
    ckk M15 20 0 <|
    lt (M15.sr 20 6 (some M14.n)) fun M16 =>
    lt (M16.nw 20 8 8) fun M17 =>
    ckk M17 20 0 <|
    lt (M17.sr 20 7 (some M16.n)) fun M18 =>
    lt (M18.nw 20 8 8) fun M19 =>
    ckk M19 20 0 <|
    lt (M19.sr 20 8 (some M18.n)) fun M20 =>
    lt (M20.nw 20 8 8) fun M21 =>
    ckk M21 20 0 <|
    lt (M21.sr 20 9 (some M20.n)) fun M22 =>
    ckk M22 20 0 <|
    lt (M22.si 20 10 1) fun M23 =>
    lt (M23.nw 20 80 80) fun M24 =>
    ckk M24 20 0 <|
    lt (M24.sr 20 15 (some M23.n)) fun M25 =>
    lt (M25.nw 20 60 60) fun M26 =>
    ckk M26 20 0 <|
    lt (M26.sr 20 20 (some M25.n)) fun M27 =>
    lt (M27.nw 20 10 10) fun M28 =>
    ckk M28 20 0 <|
    lt (M28.sr 20 21 (some M27.n)) fun M29 =>
    lt (M29.nw 20 10 10) fun M30 =>
    ckk M30 20 0 <|
    lt (M30.sr 20 22 (some M29.n)) fun M31 =>
    lt (M31.nw 20 10 10) fun M32 =>
    ckk M32 20 0 <|
    lt (M32.sr 20 23 (some M31.n)) fun M33 =>
    lt (M33.nw 20 4 4) fun M34 =>
    ckk M34 20 0 <|
    lt (M34.sr 20 25 (some M33.n)) fun M35 =>
    lt (M35.nw 20 4 4) fun M36 =>
    ckk M36 20 0 <|
    lt (M36.sr 20 26 (some M35.n)) fun M37 =>
    lt (M37.nw 20 8 8) fun M38 =>
    ckk M38 20 0 <|
    lt (M38.sr 20 27 (some M37.n)) fun M39 =>
    lt (M39.nw 20 8 8) fun M40 =>
    ckk M40 20 0 <|
    lt (M40.sr 20 28 (some M39.n)) fun M41 =>
    lt (M41.nw 20 8 8) fun M42 =>
    ckk M42 20 0 <|
    lt (M42.sr 20 29 (some M41.n)) fun M43 =>
    lt (M43.nw 20 8 8) fun M44 =>
    ckk M44 20 0 <|
    lt (M44.sr 20 30 (some M43.n)) fun M45 =>
    lt (M45.nw 20 5 5) fun M46 =>
    ckk M46 20 0 <|
    lt (M46.sr 20 40 (some M45.n)) fun M47 =>
    lt (M47.nw 24 12 12) fun M48 =>
    ckk M48 20 0 <|
    lt (M48.sr 20 41 (some M47.n)) fun M49 =>
    lt (M49.nw 1 0 6) fun M50 =>
    bd (rd_init_i M49.n M50) fun _ M51 =>
    ckk M51 20 0 <|
    lt (M51.sr 20 42 (some M49.n)) fun M52 =>
    lt (M52.nw 20 40 40) fun M53 =>
    ckk M53 20 0 <|
    lt (M53.sr 20 45 (some M52.n)) fun M54 =>
    lt (M54.nw 20 40 40) fun M55 =>
    ckk M55 20 0 <|
    lt (M55.sr 20 46 (some M54.n)) fun M56 =>
    lt (M56.nw 20 13 13) fun M57 =>
    ckk M57 20 0 <|
    lt (M57.sr 20 49 (some M56.n)) fun M58 =>
    lt (M58.nw 20 14 14) fun M59 =>
    ckk M59 20 0 <|
    lt (M59.sr 20 50 (some M58.n)) fun M60 =>
    lt (M60.nw 20 6 6) fun M61 =>
    ckk M61 20 0 <|
    lt (M61.sr 20 52 (some M60.n)) fun M62 =>
    lt (M62.nw 20 6 6) fun M63 =>
    ckk M63 20 0 <|
    lt (M63.sr 20 53 (some M62.n)) fun M64 =>
    lt (M64.nw 20 49 49) fun M65 =>
    ckk M65 20 0 <|
    lt (M65.sr 20 54 (some M64.n)) fun M66 =>
    lt (M66.nw 20 100 100) fun M67 =>
    ckk M67 20 0 <|
    lt (M67.sr 20 55 (some M66.n)) fun M68 =>
    lt (M68.nw 20 19968 19968) fun M69 =>
    ckk M69 20 0 <|
    lt (M69.sr 20 56 (some M68.n)) fun M70 =>
    lt (M70.nw 20 5 5) fun M71 =>
    ckk M71 20 0 <|
    lt (M71.sr 20 58 (some M70.n)) fun M72 =>
    lt (M72.nw 20 4 4) fun M73 =>
    ckk M73 20 0 <|
    lt (M73.sr 20 59 (some M72.n)) fun M74 =>
    lt (M74.nw 20 4 4) fun M75 =>
    ckk M75 20 0 <|
    lt (M75.sr 20 60 (some M74.n)) fun M76 =>
    lt (M76.nw 24 2 2) fun M77 =>
    ckk M77 20 0 <|
    lt (M77.sr 20 64 (some M76.n)) fun M78 =>
    lt (M78.nw 20 2 2) fun M79 =>
    ckk M79 20 0 <|
    lt (M79.sr 20 65 (some M78.n)) fun M80 =>
    lt (M80.nw 23 16 16) fun M81 =>
    ckk M81 20 0 <|
    lt (M81.sr 20 66 (some M80.n)) fun M82 =>
    some ((), M82)

set_option maxHeartbeats 4000000 in
theorem t_x_init_i (G : JG) (M : PM) : T_x_init_i G  M 0 (ent [.ref 20] 1) [] (x_init_i M) := by
  unfold x_init_i
  refine J_aload_n (pc := 0) dX1_init_0 rfl ?_
  refine J_obj (pc := 1) (by omega) q141 q142 q143 (by decide) dX1_init_1 ?_
  refine J_aload_n (pc := 4) dX1_init_4 rfl ?_
  refine J_new (pc := 5) (c := 1) rfl in_X2 tyX2_ok q144 q145 q117 df_X2 (fun h => Tt_nw h) dX1_init_5 ?_
  refine J_ltM (fun M1 => ?_)
  refine J_dup (pc := 8) dX1_init_8 rfl ?_
  refine J_callIN (host := "TollOnVowels") (pc := 9) (n := 0) (b := M.n) (vs := []) (fun l => C_rd_init_i l M.n M1) (lw_meth q148) q117 (by decide +kernel) q147 rfl nmh_X2_init rfl (by omega) (by decide) rfl (Nat.le_of_ble_eq_true rfl) dX1_init_9 (fun _u M2 => ?_)
  refine J_ckk (fun h1 => ?_)
  refine J_put (pc := 12) (a := 20) (v := va_rf (some M.n)) (M' := M2.sr 20 0 (some M.n)) (c := 0) rfl in_X1 tyX1_ok fnX1 0 (by decide) q177 rfl (Or.inr ⟨rfl, rfl, rfl⟩) (fun _ => h1) (fun ad => (nrw_r _ (Or.inl ⟨_, rfl⟩) (some M.n) ad).1) (fun ad => (nrw_r _ (Or.inl ⟨_, rfl⟩) (some M.n) ad).2) ⟨⟨rfl, rfl⟩, rfl⟩ (fun _ _ => rfl) (fun _ _ => rfl) (fun _ hb => up2_same hb) (put_r (fun _ _ _ => rfl)) (fun h => Tt_sr h trivial) dX1_init_12 ?_
  refine J_ltM (fun M3 => ?_)
  refine J_aload_n (pc := 15) dX1_init_15 rfl ?_
  refine J_new (pc := 16) (c := 1) rfl in_X2 tyX2_ok q144 q145 q117 df_X2 (fun h => Tt_nw h) dX1_init_16 ?_
  refine J_ltM (fun M4 => ?_)
  refine J_dup (pc := 19) dX1_init_19 rfl ?_
  refine J_callIN (host := "TollOnVowels") (pc := 20) (n := 0) (b := M3.n) (vs := []) (fun l => C_rd_init_i l M3.n M4) (lw_meth q148) q117 (by decide +kernel) q147 rfl nmh_X2_init rfl (by omega) (by decide) rfl (Nat.le_of_ble_eq_true rfl) dX1_init_20 (fun _u M5 => ?_)
  refine J_ckk (fun h2 => ?_)
  refine J_put (pc := 23) (a := 20) (v := va_rf (some M3.n)) (M' := M5.sr 20 1 (some M3.n)) (c := 0) rfl in_X1 tyX1_ok fnX1 1 (by decide) q178 rfl (Or.inr ⟨rfl, rfl, rfl⟩) (fun _ => h2) (fun ad => (nrw_r _ (Or.inl ⟨_, rfl⟩) (some M3.n) ad).1) (fun ad => (nrw_r _ (Or.inl ⟨_, rfl⟩) (some M3.n) ad).2) ⟨⟨rfl, rfl⟩, rfl⟩ (fun _ _ => rfl) (fun _ _ => rfl) (fun _ hb => up2_same hb) (put_r (fun _ _ _ => rfl)) (fun h => Tt_sr h trivial) dX1_init_23 ?_
  refine J_ltM (fun M6 => ?_)
  refine J_aload_n (pc := 26) dX1_init_26 rfl ?_
  refine J_bipush (pc := 27) 60 dX1_init_27 (by decide) ?_
  refine J_newa (pc := 29) (atype := .int) (c := 20) (N := 60) (by decide) (by decide) rfl q175 (by decide) (by decide) (Nat.le_of_ble_eq_true rfl) (fun _ _ => nw_d20) (fun h => Tt_nw h) dX1_init_29 ?_
  refine J_ltM (fun M7 => ?_)
  refine J_ckk (fun h3 => ?_)
  refine J_put (pc := 31) (a := 20) (v := va_rf (some M6.n)) (M' := M7.sr 20 2 (some M6.n)) (c := 0) rfl in_X1 tyX1_ok fnX1 2 (by decide) q179 rfl (Or.inr ⟨rfl, rfl, rfl⟩) (fun _ => h3) (fun ad => (nrw_r _ (Or.inr ⟨_, rfl⟩) (some M6.n) ad).1) (fun ad => (nrw_r _ (Or.inr ⟨_, rfl⟩) (some M6.n) ad).2) ⟨⟨rfl, rfl⟩, rfl⟩ (fun _ _ => rfl) (fun _ _ => rfl) (fun _ hb => up2_same hb) (put_r (fun _ _ _ => rfl)) (fun h => Tt_sr h trivial) dX1_init_31 ?_
  refine J_ltM (fun M8 => ?_)
  refine J_aload_n (pc := 34) dX1_init_34 rfl ?_
  refine J_bipush (pc := 35) 10 dX1_init_35 (by decide) ?_
  refine J_newa (pc := 37) (atype := .int) (c := 20) (N := 10) (by decide) (by decide) rfl q175 (by decide) (by decide) (Nat.le_of_ble_eq_true rfl) (fun _ _ => nw_d20) (fun h => Tt_nw h) dX1_init_37 ?_
  refine J_ltM (fun M9 => ?_)
  refine J_ckk (fun h4 => ?_)
  refine J_put (pc := 39) (a := 20) (v := va_rf (some M8.n)) (M' := M9.sr 20 3 (some M8.n)) (c := 0) rfl in_X1 tyX1_ok fnX1 3 (by decide) q180 rfl (Or.inr ⟨rfl, rfl, rfl⟩) (fun _ => h4) (fun ad => (nrw_r _ (Or.inr ⟨_, rfl⟩) (some M8.n) ad).1) (fun ad => (nrw_r _ (Or.inr ⟨_, rfl⟩) (some M8.n) ad).2) ⟨⟨rfl, rfl⟩, rfl⟩ (fun _ _ => rfl) (fun _ _ => rfl) (fun _ hb => up2_same hb) (put_r (fun _ _ _ => rfl)) (fun h => Tt_sr h trivial) dX1_init_39 ?_
  refine J_ltM (fun M10 => ?_)
  refine J_aload_n (pc := 42) dX1_init_42 rfl ?_
  refine J_bipush (pc := 43) 10 dX1_init_43 (by decide) ?_
  refine J_newa (pc := 45) (atype := .int) (c := 20) (N := 10) (by decide) (by decide) rfl q175 (by decide) (by decide) (Nat.le_of_ble_eq_true rfl) (fun _ _ => nw_d20) (fun h => Tt_nw h) dX1_init_45 ?_
  refine J_ltM (fun M11 => ?_)
  refine J_ckk (fun h5 => ?_)
  refine J_put (pc := 47) (a := 20) (v := va_rf (some M10.n)) (M' := M11.sr 20 4 (some M10.n)) (c := 0) rfl in_X1 tyX1_ok fnX1 4 (by decide) q181 rfl (Or.inr ⟨rfl, rfl, rfl⟩) (fun _ => h5) (fun ad => (nrw_r _ (Or.inr ⟨_, rfl⟩) (some M10.n) ad).1) (fun ad => (nrw_r _ (Or.inr ⟨_, rfl⟩) (some M10.n) ad).2) ⟨⟨rfl, rfl⟩, rfl⟩ (fun _ _ => rfl) (fun _ _ => rfl) (fun _ hb => up2_same hb) (put_r (fun _ _ _ => rfl)) (fun h => Tt_sr h trivial) dX1_init_47 ?_
  refine J_ltM (fun M12 => ?_)
  refine J_aload_n (pc := 50) dX1_init_50 rfl ?_
  refine J_bipush (pc := 51) 10 dX1_init_51 (by decide) ?_
  refine J_newa (pc := 53) (atype := .int) (c := 20) (N := 10) (by decide) (by decide) rfl q175 (by decide) (by decide) (Nat.le_of_ble_eq_true rfl) (fun _ _ => nw_d20) (fun h => Tt_nw h) dX1_init_53 ?_
  refine J_ltM (fun M13 => ?_)
  refine J_ckk (fun h6 => ?_)
  refine J_put (pc := 55) (a := 20) (v := va_rf (some M12.n)) (M' := M13.sr 20 5 (some M12.n)) (c := 0) rfl in_X1 tyX1_ok fnX1 5 (by decide) q182 rfl (Or.inr ⟨rfl, rfl, rfl⟩) (fun _ => h6) (fun ad => (nrw_r _ (Or.inr ⟨_, rfl⟩) (some M12.n) ad).1) (fun ad => (nrw_r _ (Or.inr ⟨_, rfl⟩) (some M12.n) ad).2) ⟨⟨rfl, rfl⟩, rfl⟩ (fun _ _ => rfl) (fun _ _ => rfl) (fun _ hb => up2_same hb) (put_r (fun _ _ _ => rfl)) (fun h => Tt_sr h trivial) dX1_init_55 ?_
  refine J_ltM (fun M14 => ?_)
  refine J_aload_n (pc := 58) dX1_init_58 rfl ?_
  refine J_bipush (pc := 59) 8 dX1_init_59 (by decide) ?_
  refine J_newa (pc := 61) (atype := .int) (c := 20) (N := 8) (by decide) (by decide) rfl q175 (by decide) (by decide) (Nat.le_of_ble_eq_true rfl) (fun _ _ => nw_d20) (fun h => Tt_nw h) dX1_init_61 ?_
  refine J_ltM (fun M15 => ?_)
  refine J_ckk (fun h7 => ?_)
  refine J_put (pc := 63) (a := 20) (v := va_rf (some M14.n)) (M' := M15.sr 20 6 (some M14.n)) (c := 0) rfl in_X1 tyX1_ok fnX1 6 (by decide) q183 rfl (Or.inr ⟨rfl, rfl, rfl⟩) (fun _ => h7) (fun ad => (nrw_r _ (Or.inr ⟨_, rfl⟩) (some M14.n) ad).1) (fun ad => (nrw_r _ (Or.inr ⟨_, rfl⟩) (some M14.n) ad).2) ⟨⟨rfl, rfl⟩, rfl⟩ (fun _ _ => rfl) (fun _ _ => rfl) (fun _ hb => up2_same hb) (put_r (fun _ _ _ => rfl)) (fun h => Tt_sr h trivial) dX1_init_63 ?_
  refine J_ltM (fun M16 => ?_)
  refine J_aload_n (pc := 66) dX1_init_66 rfl ?_
  refine J_bipush (pc := 67) 8 dX1_init_67 (by decide) ?_
  refine J_newa (pc := 69) (atype := .int) (c := 20) (N := 8) (by decide) (by decide) rfl q175 (by decide) (by decide) (Nat.le_of_ble_eq_true rfl) (fun _ _ => nw_d20) (fun h => Tt_nw h) dX1_init_69 ?_
  refine J_ltM (fun M17 => ?_)
  refine J_ckk (fun h8 => ?_)
  refine J_put (pc := 71) (a := 20) (v := va_rf (some M16.n)) (M' := M17.sr 20 7 (some M16.n)) (c := 0) rfl in_X1 tyX1_ok fnX1 7 (by decide) q184 rfl (Or.inr ⟨rfl, rfl, rfl⟩) (fun _ => h8) (fun ad => (nrw_r _ (Or.inr ⟨_, rfl⟩) (some M16.n) ad).1) (fun ad => (nrw_r _ (Or.inr ⟨_, rfl⟩) (some M16.n) ad).2) ⟨⟨rfl, rfl⟩, rfl⟩ (fun _ _ => rfl) (fun _ _ => rfl) (fun _ hb => up2_same hb) (put_r (fun _ _ _ => rfl)) (fun h => Tt_sr h trivial) dX1_init_71 ?_
  refine J_ltM (fun M18 => ?_)
  refine J_aload_n (pc := 74) dX1_init_74 rfl ?_
  refine J_bipush (pc := 75) 8 dX1_init_75 (by decide) ?_
  refine J_newa (pc := 77) (atype := .int) (c := 20) (N := 8) (by decide) (by decide) rfl q175 (by decide) (by decide) (Nat.le_of_ble_eq_true rfl) (fun _ _ => nw_d20) (fun h => Tt_nw h) dX1_init_77 ?_
  refine J_ltM (fun M19 => ?_)
  refine J_ckk (fun h9 => ?_)
  refine J_put (pc := 79) (a := 20) (v := va_rf (some M18.n)) (M' := M19.sr 20 8 (some M18.n)) (c := 0) rfl in_X1 tyX1_ok fnX1 8 (by decide) q185 rfl (Or.inr ⟨rfl, rfl, rfl⟩) (fun _ => h9) (fun ad => (nrw_r _ (Or.inr ⟨_, rfl⟩) (some M18.n) ad).1) (fun ad => (nrw_r _ (Or.inr ⟨_, rfl⟩) (some M18.n) ad).2) ⟨⟨rfl, rfl⟩, rfl⟩ (fun _ _ => rfl) (fun _ _ => rfl) (fun _ hb => up2_same hb) (put_r (fun _ _ _ => rfl)) (fun h => Tt_sr h trivial) dX1_init_79 ?_
  refine J_ltM (fun M20 => ?_)
  refine J_aload_n (pc := 82) dX1_init_82 rfl ?_
  refine J_bipush (pc := 83) 8 dX1_init_83 (by decide) ?_
  refine J_newa (pc := 85) (atype := .int) (c := 20) (N := 8) (by decide) (by decide) rfl q175 (by decide) (by decide) (Nat.le_of_ble_eq_true rfl) (fun _ _ => nw_d20) (fun h => Tt_nw h) dX1_init_85 ?_
  refine J_ltM (fun M21 => ?_)
  refine J_ckk (fun h10 => ?_)
  refine J_put (pc := 87) (a := 20) (v := va_rf (some M20.n)) (M' := M21.sr 20 9 (some M20.n)) (c := 0) rfl in_X1 tyX1_ok fnX1 9 (by decide) q186 rfl (Or.inr ⟨rfl, rfl, rfl⟩) (fun _ => h10) (fun ad => (nrw_r _ (Or.inr ⟨_, rfl⟩) (some M20.n) ad).1) (fun ad => (nrw_r _ (Or.inr ⟨_, rfl⟩) (some M20.n) ad).2) ⟨⟨rfl, rfl⟩, rfl⟩ (fun _ _ => rfl) (fun _ _ => rfl) (fun _ hb => up2_same hb) (put_r (fun _ _ _ => rfl)) (fun h => Tt_sr h trivial) dX1_init_87 ?_
  refine J_ltM (fun M22 => ?_)
  refine J_aload_n (pc := 90) dX1_init_90 rfl ?_
  refine J_iconst (pc := 91) 1 dX1_init_91 (by decide) ?_
  refine J_ckk (fun h11 => ?_)
  refine J_put (pc := 92) (a := 20) (v := .int 1) (M' := M22.si 20 10 1) (c := 0) rfl in_X1 tyX1_ok fnX1 10 (by decide) q187 rfl (Or.inl rfl) (fun _ => h11) (fun _ => rfl) (fun _ => rfl) ⟨⟨rfl, rfl⟩, rfl⟩ (fun _ hb => up2_same hb) (fun _ _ => rfl) (fun _ _ => rfl) (put_i (fun _ _ _ => rfl)) (fun h => Tt_si h) dX1_init_92 ?_
  refine J_ltM (fun M23 => ?_)
  refine J_aload_n (pc := 95) dX1_init_95 rfl ?_
  refine J_bipush (pc := 96) 80 dX1_init_96 (by decide) ?_
  refine J_newa (pc := 98) (atype := .int) (c := 20) (N := 80) (by decide) (by decide) rfl q175 (by decide) (by decide) (Nat.le_of_ble_eq_true rfl) (fun _ _ => nw_d20) (fun h => Tt_nw h) dX1_init_98 ?_
  refine J_ltM (fun M24 => ?_)
  refine J_ckk (fun h12 => ?_)
  refine J_put (pc := 100) (a := 20) (v := va_rf (some M23.n)) (M' := M24.sr 20 15 (some M23.n)) (c := 0) rfl in_X1 tyX1_ok fnX1 15 (by decide) q192 rfl (Or.inr ⟨rfl, rfl, rfl⟩) (fun _ => h12) (fun ad => (nrw_r _ (Or.inr ⟨_, rfl⟩) (some M23.n) ad).1) (fun ad => (nrw_r _ (Or.inr ⟨_, rfl⟩) (some M23.n) ad).2) ⟨⟨rfl, rfl⟩, rfl⟩ (fun _ _ => rfl) (fun _ _ => rfl) (fun _ hb => up2_same hb) (put_r (fun _ _ _ => rfl)) (fun h => Tt_sr h trivial) dX1_init_100 ?_
  refine J_ltM (fun M25 => ?_)
  refine J_aload_n (pc := 103) dX1_init_103 rfl ?_
  refine J_bipush (pc := 104) 60 dX1_init_104 (by decide) ?_
  refine J_newa (pc := 106) (atype := .int) (c := 20) (N := 60) (by decide) (by decide) rfl q175 (by decide) (by decide) (Nat.le_of_ble_eq_true rfl) (fun _ _ => nw_d20) (fun h => Tt_nw h) dX1_init_106 ?_
  refine J_ltM (fun M26 => ?_)
  refine J_ckk (fun h13 => ?_)
  refine J_put (pc := 108) (a := 20) (v := va_rf (some M25.n)) (M' := M26.sr 20 20 (some M25.n)) (c := 0) rfl in_X1 tyX1_ok fnX1 20 (by decide) q197 rfl (Or.inr ⟨rfl, rfl, rfl⟩) (fun _ => h13) (fun ad => (nrw_r _ (Or.inr ⟨_, rfl⟩) (some M25.n) ad).1) (fun ad => (nrw_r _ (Or.inr ⟨_, rfl⟩) (some M25.n) ad).2) ⟨⟨rfl, rfl⟩, rfl⟩ (fun _ _ => rfl) (fun _ _ => rfl) (fun _ hb => up2_same hb) (put_r (fun _ _ _ => rfl)) (fun h => Tt_sr h trivial) dX1_init_108 ?_
  refine J_ltM (fun M27 => ?_)
  refine J_aload_n (pc := 111) dX1_init_111 rfl ?_
  refine J_bipush (pc := 112) 10 dX1_init_112 (by decide) ?_
  refine J_newa (pc := 114) (atype := .int) (c := 20) (N := 10) (by decide) (by decide) rfl q175 (by decide) (by decide) (Nat.le_of_ble_eq_true rfl) (fun _ _ => nw_d20) (fun h => Tt_nw h) dX1_init_114 ?_
  refine J_ltM (fun M28 => ?_)
  refine J_ckk (fun h14 => ?_)
  refine J_put (pc := 116) (a := 20) (v := va_rf (some M27.n)) (M' := M28.sr 20 21 (some M27.n)) (c := 0) rfl in_X1 tyX1_ok fnX1 21 (by decide) q198 rfl (Or.inr ⟨rfl, rfl, rfl⟩) (fun _ => h14) (fun ad => (nrw_r _ (Or.inr ⟨_, rfl⟩) (some M27.n) ad).1) (fun ad => (nrw_r _ (Or.inr ⟨_, rfl⟩) (some M27.n) ad).2) ⟨⟨rfl, rfl⟩, rfl⟩ (fun _ _ => rfl) (fun _ _ => rfl) (fun _ hb => up2_same hb) (put_r (fun _ _ _ => rfl)) (fun h => Tt_sr h trivial) dX1_init_116 ?_
  refine J_ltM (fun M29 => ?_)
  refine J_aload_n (pc := 119) dX1_init_119 rfl ?_
  refine J_bipush (pc := 120) 10 dX1_init_120 (by decide) ?_
  refine J_newa (pc := 122) (atype := .int) (c := 20) (N := 10) (by decide) (by decide) rfl q175 (by decide) (by decide) (Nat.le_of_ble_eq_true rfl) (fun _ _ => nw_d20) (fun h => Tt_nw h) dX1_init_122 ?_
  refine J_ltM (fun M30 => ?_)
  refine J_ckk (fun h15 => ?_)
  refine J_put (pc := 124) (a := 20) (v := va_rf (some M29.n)) (M' := M30.sr 20 22 (some M29.n)) (c := 0) rfl in_X1 tyX1_ok fnX1 22 (by decide) q199 rfl (Or.inr ⟨rfl, rfl, rfl⟩) (fun _ => h15) (fun ad => (nrw_r _ (Or.inr ⟨_, rfl⟩) (some M29.n) ad).1) (fun ad => (nrw_r _ (Or.inr ⟨_, rfl⟩) (some M29.n) ad).2) ⟨⟨rfl, rfl⟩, rfl⟩ (fun _ _ => rfl) (fun _ _ => rfl) (fun _ hb => up2_same hb) (put_r (fun _ _ _ => rfl)) (fun h => Tt_sr h trivial) dX1_init_124 ?_
  refine J_ltM (fun M31 => ?_)
  refine J_aload_n (pc := 127) dX1_init_127 rfl ?_
  refine J_bipush (pc := 128) 10 dX1_init_128 (by decide) ?_
  refine J_newa (pc := 130) (atype := .int) (c := 20) (N := 10) (by decide) (by decide) rfl q175 (by decide) (by decide) (Nat.le_of_ble_eq_true rfl) (fun _ _ => nw_d20) (fun h => Tt_nw h) dX1_init_130 ?_
  refine J_ltM (fun M32 => ?_)
  refine J_ckk (fun h16 => ?_)
  refine J_put (pc := 132) (a := 20) (v := va_rf (some M31.n)) (M' := M32.sr 20 23 (some M31.n)) (c := 0) rfl in_X1 tyX1_ok fnX1 23 (by decide) q200 rfl (Or.inr ⟨rfl, rfl, rfl⟩) (fun _ => h16) (fun ad => (nrw_r _ (Or.inr ⟨_, rfl⟩) (some M31.n) ad).1) (fun ad => (nrw_r _ (Or.inr ⟨_, rfl⟩) (some M31.n) ad).2) ⟨⟨rfl, rfl⟩, rfl⟩ (fun _ _ => rfl) (fun _ _ => rfl) (fun _ hb => up2_same hb) (put_r (fun _ _ _ => rfl)) (fun h => Tt_sr h trivial) dX1_init_132 ?_
  refine J_ltM (fun M33 => ?_)
  refine J_aload_n (pc := 135) dX1_init_135 rfl ?_
  refine J_iconst (pc := 136) 4 dX1_init_136 (by decide) ?_
  refine J_newa (pc := 137) (atype := .int) (c := 20) (N := 4) (by decide) (by decide) rfl q175 (by decide) (by decide) (Nat.le_of_ble_eq_true rfl) (fun _ _ => nw_d20) (fun h => Tt_nw h) dX1_init_137 ?_
  refine J_ltM (fun M34 => ?_)
  refine J_ckk (fun h17 => ?_)
  refine J_put (pc := 139) (a := 20) (v := va_rf (some M33.n)) (M' := M34.sr 20 25 (some M33.n)) (c := 0) rfl in_X1 tyX1_ok fnX1 25 (by decide) q202 rfl (Or.inr ⟨rfl, rfl, rfl⟩) (fun _ => h17) (fun ad => (nrw_r _ (Or.inr ⟨_, rfl⟩) (some M33.n) ad).1) (fun ad => (nrw_r _ (Or.inr ⟨_, rfl⟩) (some M33.n) ad).2) ⟨⟨rfl, rfl⟩, rfl⟩ (fun _ _ => rfl) (fun _ _ => rfl) (fun _ hb => up2_same hb) (put_r (fun _ _ _ => rfl)) (fun h => Tt_sr h trivial) dX1_init_139 ?_
  refine J_ltM (fun M35 => ?_)
  refine J_aload_n (pc := 142) dX1_init_142 rfl ?_
  refine J_iconst (pc := 143) 4 dX1_init_143 (by decide) ?_
  refine J_newa (pc := 144) (atype := .int) (c := 20) (N := 4) (by decide) (by decide) rfl q175 (by decide) (by decide) (Nat.le_of_ble_eq_true rfl) (fun _ _ => nw_d20) (fun h => Tt_nw h) dX1_init_144 ?_
  refine J_ltM (fun M36 => ?_)
  refine J_ckk (fun h18 => ?_)
  refine J_put (pc := 146) (a := 20) (v := va_rf (some M35.n)) (M' := M36.sr 20 26 (some M35.n)) (c := 0) rfl in_X1 tyX1_ok fnX1 26 (by decide) q203 rfl (Or.inr ⟨rfl, rfl, rfl⟩) (fun _ => h18) (fun ad => (nrw_r _ (Or.inr ⟨_, rfl⟩) (some M35.n) ad).1) (fun ad => (nrw_r _ (Or.inr ⟨_, rfl⟩) (some M35.n) ad).2) ⟨⟨rfl, rfl⟩, rfl⟩ (fun _ _ => rfl) (fun _ _ => rfl) (fun _ hb => up2_same hb) (put_r (fun _ _ _ => rfl)) (fun h => Tt_sr h trivial) dX1_init_146 ?_
  refine J_ltM (fun M37 => ?_)
  refine J_aload_n (pc := 149) dX1_init_149 rfl ?_
  refine J_bipush (pc := 150) 8 dX1_init_150 (by decide) ?_
  refine J_newa (pc := 152) (atype := .int) (c := 20) (N := 8) (by decide) (by decide) rfl q175 (by decide) (by decide) (Nat.le_of_ble_eq_true rfl) (fun _ _ => nw_d20) (fun h => Tt_nw h) dX1_init_152 ?_
  refine J_ltM (fun M38 => ?_)
  refine J_ckk (fun h19 => ?_)
  refine J_put (pc := 154) (a := 20) (v := va_rf (some M37.n)) (M' := M38.sr 20 27 (some M37.n)) (c := 0) rfl in_X1 tyX1_ok fnX1 27 (by decide) q204 rfl (Or.inr ⟨rfl, rfl, rfl⟩) (fun _ => h19) (fun ad => (nrw_r _ (Or.inr ⟨_, rfl⟩) (some M37.n) ad).1) (fun ad => (nrw_r _ (Or.inr ⟨_, rfl⟩) (some M37.n) ad).2) ⟨⟨rfl, rfl⟩, rfl⟩ (fun _ _ => rfl) (fun _ _ => rfl) (fun _ hb => up2_same hb) (put_r (fun _ _ _ => rfl)) (fun h => Tt_sr h trivial) dX1_init_154 ?_
  refine J_ltM (fun M39 => ?_)
  refine J_aload_n (pc := 157) dX1_init_157 rfl ?_
  refine J_bipush (pc := 158) 8 dX1_init_158 (by decide) ?_
  refine J_newa (pc := 160) (atype := .int) (c := 20) (N := 8) (by decide) (by decide) rfl q175 (by decide) (by decide) (Nat.le_of_ble_eq_true rfl) (fun _ _ => nw_d20) (fun h => Tt_nw h) dX1_init_160 ?_
  refine J_ltM (fun M40 => ?_)
  refine J_ckk (fun h20 => ?_)
  refine J_put (pc := 162) (a := 20) (v := va_rf (some M39.n)) (M' := M40.sr 20 28 (some M39.n)) (c := 0) rfl in_X1 tyX1_ok fnX1 28 (by decide) q205 rfl (Or.inr ⟨rfl, rfl, rfl⟩) (fun _ => h20) (fun ad => (nrw_r _ (Or.inr ⟨_, rfl⟩) (some M39.n) ad).1) (fun ad => (nrw_r _ (Or.inr ⟨_, rfl⟩) (some M39.n) ad).2) ⟨⟨rfl, rfl⟩, rfl⟩ (fun _ _ => rfl) (fun _ _ => rfl) (fun _ hb => up2_same hb) (put_r (fun _ _ _ => rfl)) (fun h => Tt_sr h trivial) dX1_init_162 ?_
  refine J_ltM (fun M41 => ?_)
  refine J_aload_n (pc := 165) dX1_init_165 rfl ?_
  refine J_bipush (pc := 166) 8 dX1_init_166 (by decide) ?_
  refine J_newa (pc := 168) (atype := .int) (c := 20) (N := 8) (by decide) (by decide) rfl q175 (by decide) (by decide) (Nat.le_of_ble_eq_true rfl) (fun _ _ => nw_d20) (fun h => Tt_nw h) dX1_init_168 ?_
  refine J_ltM (fun M42 => ?_)
  refine J_ckk (fun h21 => ?_)
  refine J_put (pc := 170) (a := 20) (v := va_rf (some M41.n)) (M' := M42.sr 20 29 (some M41.n)) (c := 0) rfl in_X1 tyX1_ok fnX1 29 (by decide) q206 rfl (Or.inr ⟨rfl, rfl, rfl⟩) (fun _ => h21) (fun ad => (nrw_r _ (Or.inr ⟨_, rfl⟩) (some M41.n) ad).1) (fun ad => (nrw_r _ (Or.inr ⟨_, rfl⟩) (some M41.n) ad).2) ⟨⟨rfl, rfl⟩, rfl⟩ (fun _ _ => rfl) (fun _ _ => rfl) (fun _ hb => up2_same hb) (put_r (fun _ _ _ => rfl)) (fun h => Tt_sr h trivial) dX1_init_170 ?_
  refine J_ltM (fun M43 => ?_)
  refine J_aload_n (pc := 173) dX1_init_173 rfl ?_
  refine J_bipush (pc := 174) 8 dX1_init_174 (by decide) ?_
  refine J_newa (pc := 176) (atype := .int) (c := 20) (N := 8) (by decide) (by decide) rfl q175 (by decide) (by decide) (Nat.le_of_ble_eq_true rfl) (fun _ _ => nw_d20) (fun h => Tt_nw h) dX1_init_176 ?_
  refine J_ltM (fun M44 => ?_)
  refine J_ckk (fun h22 => ?_)
  refine J_put (pc := 178) (a := 20) (v := va_rf (some M43.n)) (M' := M44.sr 20 30 (some M43.n)) (c := 0) rfl in_X1 tyX1_ok fnX1 30 (by decide) q207 rfl (Or.inr ⟨rfl, rfl, rfl⟩) (fun _ => h22) (fun ad => (nrw_r _ (Or.inr ⟨_, rfl⟩) (some M43.n) ad).1) (fun ad => (nrw_r _ (Or.inr ⟨_, rfl⟩) (some M43.n) ad).2) ⟨⟨rfl, rfl⟩, rfl⟩ (fun _ _ => rfl) (fun _ _ => rfl) (fun _ hb => up2_same hb) (put_r (fun _ _ _ => rfl)) (fun h => Tt_sr h trivial) dX1_init_178 ?_
  refine J_ltM (fun M45 => ?_)
  refine J_aload_n (pc := 181) dX1_init_181 rfl ?_
  refine J_iconst (pc := 182) 5 dX1_init_182 (by decide) ?_
  refine J_newa (pc := 183) (atype := .int) (c := 20) (N := 5) (by decide) (by decide) rfl q175 (by decide) (by decide) (Nat.le_of_ble_eq_true rfl) (fun _ _ => nw_d20) (fun h => Tt_nw h) dX1_init_183 ?_
  refine J_ltM (fun M46 => ?_)
  refine J_ckk (fun h23 => ?_)
  refine J_put (pc := 185) (a := 20) (v := va_rf (some M45.n)) (M' := M46.sr 20 40 (some M45.n)) (c := 0) rfl in_X1 tyX1_ok fnX1 40 (by decide) q224 rfl (Or.inr ⟨rfl, rfl, rfl⟩) (fun _ => h23) (fun ad => (nrw_r _ (Or.inr ⟨_, rfl⟩) (some M45.n) ad).1) (fun ad => (nrw_r _ (Or.inr ⟨_, rfl⟩) (some M45.n) ad).2) ⟨⟨rfl, rfl⟩, rfl⟩ (fun _ _ => rfl) (fun _ _ => rfl) (fun _ hb => up2_same hb) (put_r (fun _ _ _ => rfl)) (fun h => Tt_sr h trivial) dX1_init_185 ?_
  refine J_ltM (fun M47 => ?_)
  refine J_aload_n (pc := 188) dX1_init_188 rfl ?_
  refine J_bipush (pc := 189) 12 dX1_init_189 (by decide) ?_
  refine J_anew (pc := 191) (N := 12) q144 (by decide) (by decide) (Nat.le_of_ble_eq_true rfl) (fun h => Tt_nw h) dX1_init_191 ?_
  refine J_ltM (fun M48 => ?_)
  refine J_ckk (fun h24 => ?_)
  refine J_put (pc := 194) (a := 20) (v := va_rf (some M47.n)) (M' := M48.sr 20 41 (some M47.n)) (c := 0) rfl in_X1 tyX1_ok fnX1 41 (by decide) q225 rfl (Or.inr ⟨rfl, rfl, rfl⟩) (fun _ => h24) (fun ad => (nrw_r _ (Or.inr ⟨_, rfl⟩) (some M47.n) ad).1) (fun ad => (nrw_r _ (Or.inr ⟨_, rfl⟩) (some M47.n) ad).2) ⟨⟨rfl, rfl⟩, rfl⟩ (fun _ _ => rfl) (fun _ _ => rfl) (fun _ hb => up2_same hb) (put_r (fun _ _ _ => rfl)) (fun h => Tt_sr h trivial) dX1_init_194 ?_
  refine J_ltM (fun M49 => ?_)
  refine J_aload_n (pc := 197) dX1_init_197 rfl ?_
  refine J_new (pc := 198) (c := 1) rfl in_X2 tyX2_ok q144 q145 q117 df_X2 (fun h => Tt_nw h) dX1_init_198 ?_
  refine J_ltM (fun M50 => ?_)
  refine J_dup (pc := 201) dX1_init_201 rfl ?_
  refine J_callIN (host := "TollOnVowels") (pc := 202) (n := 0) (b := M49.n) (vs := []) (fun l => C_rd_init_i l M49.n M50) (lw_meth q148) q117 (by decide +kernel) q147 rfl nmh_X2_init rfl (by omega) (by decide) rfl (Nat.le_of_ble_eq_true rfl) dX1_init_202 (fun _u M51 => ?_)
  refine J_ckk (fun h25 => ?_)
  refine J_put (pc := 205) (a := 20) (v := va_rf (some M49.n)) (M' := M51.sr 20 42 (some M49.n)) (c := 0) rfl in_X1 tyX1_ok fnX1 42 (by decide) q226 rfl (Or.inr ⟨rfl, rfl, rfl⟩) (fun _ => h25) (fun ad => (nrw_r _ (Or.inl ⟨_, rfl⟩) (some M49.n) ad).1) (fun ad => (nrw_r _ (Or.inl ⟨_, rfl⟩) (some M49.n) ad).2) ⟨⟨rfl, rfl⟩, rfl⟩ (fun _ _ => rfl) (fun _ _ => rfl) (fun _ hb => up2_same hb) (put_r (fun _ _ _ => rfl)) (fun h => Tt_sr h trivial) dX1_init_205 ?_
  refine J_ltM (fun M52 => ?_)
  refine J_aload_n (pc := 208) dX1_init_208 rfl ?_
  refine J_bipush (pc := 209) 40 dX1_init_209 (by decide) ?_
  refine J_newa (pc := 211) (atype := .int) (c := 20) (N := 40) (by decide) (by decide) rfl q175 (by decide) (by decide) (Nat.le_of_ble_eq_true rfl) (fun _ _ => nw_d20) (fun h => Tt_nw h) dX1_init_211 ?_
  refine J_ltM (fun M53 => ?_)
  refine J_ckk (fun h26 => ?_)
  refine J_put (pc := 213) (a := 20) (v := va_rf (some M52.n)) (M' := M53.sr 20 45 (some M52.n)) (c := 0) rfl in_X1 tyX1_ok fnX1 45 (by decide) q229 rfl (Or.inr ⟨rfl, rfl, rfl⟩) (fun _ => h26) (fun ad => (nrw_r _ (Or.inr ⟨_, rfl⟩) (some M52.n) ad).1) (fun ad => (nrw_r _ (Or.inr ⟨_, rfl⟩) (some M52.n) ad).2) ⟨⟨rfl, rfl⟩, rfl⟩ (fun _ _ => rfl) (fun _ _ => rfl) (fun _ hb => up2_same hb) (put_r (fun _ _ _ => rfl)) (fun h => Tt_sr h trivial) dX1_init_213 ?_
  refine J_ltM (fun M54 => ?_)
  refine J_aload_n (pc := 216) dX1_init_216 rfl ?_
  refine J_bipush (pc := 217) 40 dX1_init_217 (by decide) ?_
  refine J_newa (pc := 219) (atype := .int) (c := 20) (N := 40) (by decide) (by decide) rfl q175 (by decide) (by decide) (Nat.le_of_ble_eq_true rfl) (fun _ _ => nw_d20) (fun h => Tt_nw h) dX1_init_219 ?_
  refine J_ltM (fun M55 => ?_)
  refine J_ckk (fun h27 => ?_)
  refine J_put (pc := 221) (a := 20) (v := va_rf (some M54.n)) (M' := M55.sr 20 46 (some M54.n)) (c := 0) rfl in_X1 tyX1_ok fnX1 46 (by decide) q230 rfl (Or.inr ⟨rfl, rfl, rfl⟩) (fun _ => h27) (fun ad => (nrw_r _ (Or.inr ⟨_, rfl⟩) (some M54.n) ad).1) (fun ad => (nrw_r _ (Or.inr ⟨_, rfl⟩) (some M54.n) ad).2) ⟨⟨rfl, rfl⟩, rfl⟩ (fun _ _ => rfl) (fun _ _ => rfl) (fun _ hb => up2_same hb) (put_r (fun _ _ _ => rfl)) (fun h => Tt_sr h trivial) dX1_init_221 ?_
  refine J_ltM (fun M56 => ?_)
  refine J_aload_n (pc := 224) dX1_init_224 rfl ?_
  refine J_bipush (pc := 225) 13 dX1_init_225 (by decide) ?_
  refine J_newa (pc := 227) (atype := .int) (c := 20) (N := 13) (by decide) (by decide) rfl q175 (by decide) (by decide) (Nat.le_of_ble_eq_true rfl) (fun _ _ => nw_d20) (fun h => Tt_nw h) dX1_init_227 ?_
  refine J_ltM (fun M57 => ?_)
  refine J_ckk (fun h28 => ?_)
  refine J_put (pc := 229) (a := 20) (v := va_rf (some M56.n)) (M' := M57.sr 20 49 (some M56.n)) (c := 0) rfl in_X1 tyX1_ok fnX1 49 (by decide) q233 rfl (Or.inr ⟨rfl, rfl, rfl⟩) (fun _ => h28) (fun ad => (nrw_r _ (Or.inr ⟨_, rfl⟩) (some M56.n) ad).1) (fun ad => (nrw_r _ (Or.inr ⟨_, rfl⟩) (some M56.n) ad).2) ⟨⟨rfl, rfl⟩, rfl⟩ (fun _ _ => rfl) (fun _ _ => rfl) (fun _ hb => up2_same hb) (put_r (fun _ _ _ => rfl)) (fun h => Tt_sr h trivial) dX1_init_229 ?_
  refine J_ltM (fun M58 => ?_)
  refine J_aload_n (pc := 232) dX1_init_232 rfl ?_
  refine J_bipush (pc := 233) 14 dX1_init_233 (by decide) ?_
  refine J_newa (pc := 235) (atype := .int) (c := 20) (N := 14) (by decide) (by decide) rfl q175 (by decide) (by decide) (Nat.le_of_ble_eq_true rfl) (fun _ _ => nw_d20) (fun h => Tt_nw h) dX1_init_235 ?_
  refine J_ltM (fun M59 => ?_)
  refine J_ckk (fun h29 => ?_)
  refine J_put (pc := 237) (a := 20) (v := va_rf (some M58.n)) (M' := M59.sr 20 50 (some M58.n)) (c := 0) rfl in_X1 tyX1_ok fnX1 50 (by decide) q234 rfl (Or.inr ⟨rfl, rfl, rfl⟩) (fun _ => h29) (fun ad => (nrw_r _ (Or.inr ⟨_, rfl⟩) (some M58.n) ad).1) (fun ad => (nrw_r _ (Or.inr ⟨_, rfl⟩) (some M58.n) ad).2) ⟨⟨rfl, rfl⟩, rfl⟩ (fun _ _ => rfl) (fun _ _ => rfl) (fun _ hb => up2_same hb) (put_r (fun _ _ _ => rfl)) (fun h => Tt_sr h trivial) dX1_init_237 ?_
  refine J_ltM (fun M60 => ?_)
  refine J_aload_n (pc := 240) dX1_init_240 rfl ?_
  refine J_bipush (pc := 241) 6 dX1_init_241 (by decide) ?_
  refine J_newa (pc := 243) (atype := .int) (c := 20) (N := 6) (by decide) (by decide) rfl q175 (by decide) (by decide) (Nat.le_of_ble_eq_true rfl) (fun _ _ => nw_d20) (fun h => Tt_nw h) dX1_init_243 ?_
  refine J_ltM (fun M61 => ?_)
  refine J_ckk (fun h30 => ?_)
  refine J_put (pc := 245) (a := 20) (v := va_rf (some M60.n)) (M' := M61.sr 20 52 (some M60.n)) (c := 0) rfl in_X1 tyX1_ok fnX1 52 (by decide) q236 rfl (Or.inr ⟨rfl, rfl, rfl⟩) (fun _ => h30) (fun ad => (nrw_r _ (Or.inr ⟨_, rfl⟩) (some M60.n) ad).1) (fun ad => (nrw_r _ (Or.inr ⟨_, rfl⟩) (some M60.n) ad).2) ⟨⟨rfl, rfl⟩, rfl⟩ (fun _ _ => rfl) (fun _ _ => rfl) (fun _ hb => up2_same hb) (put_r (fun _ _ _ => rfl)) (fun h => Tt_sr h trivial) dX1_init_245 ?_
  refine J_ltM (fun M62 => ?_)
  refine J_aload_n (pc := 248) dX1_init_248 rfl ?_
  refine J_bipush (pc := 249) 6 dX1_init_249 (by decide) ?_
  refine J_newa (pc := 251) (atype := .int) (c := 20) (N := 6) (by decide) (by decide) rfl q175 (by decide) (by decide) (Nat.le_of_ble_eq_true rfl) (fun _ _ => nw_d20) (fun h => Tt_nw h) dX1_init_251 ?_
  refine J_ltM (fun M63 => ?_)
  refine J_ckk (fun h31 => ?_)
  refine J_put (pc := 253) (a := 20) (v := va_rf (some M62.n)) (M' := M63.sr 20 53 (some M62.n)) (c := 0) rfl in_X1 tyX1_ok fnX1 53 (by decide) q237 rfl (Or.inr ⟨rfl, rfl, rfl⟩) (fun _ => h31) (fun ad => (nrw_r _ (Or.inr ⟨_, rfl⟩) (some M62.n) ad).1) (fun ad => (nrw_r _ (Or.inr ⟨_, rfl⟩) (some M62.n) ad).2) ⟨⟨rfl, rfl⟩, rfl⟩ (fun _ _ => rfl) (fun _ _ => rfl) (fun _ hb => up2_same hb) (put_r (fun _ _ _ => rfl)) (fun h => Tt_sr h trivial) dX1_init_253 ?_
  refine J_ltM (fun M64 => ?_)
  refine J_aload_n (pc := 256) dX1_init_256 rfl ?_
  refine J_bipush (pc := 257) 49 dX1_init_257 (by decide) ?_
  refine J_newa (pc := 259) (atype := .int) (c := 20) (N := 49) (by decide) (by decide) rfl q175 (by decide) (by decide) (Nat.le_of_ble_eq_true rfl) (fun _ _ => nw_d20) (fun h => Tt_nw h) dX1_init_259 ?_
  refine J_ltM (fun M65 => ?_)
  refine J_ckk (fun h32 => ?_)
  refine J_put (pc := 261) (a := 20) (v := va_rf (some M64.n)) (M' := M65.sr 20 54 (some M64.n)) (c := 0) rfl in_X1 tyX1_ok fnX1 54 (by decide) q238 rfl (Or.inr ⟨rfl, rfl, rfl⟩) (fun _ => h32) (fun ad => (nrw_r _ (Or.inr ⟨_, rfl⟩) (some M64.n) ad).1) (fun ad => (nrw_r _ (Or.inr ⟨_, rfl⟩) (some M64.n) ad).2) ⟨⟨rfl, rfl⟩, rfl⟩ (fun _ _ => rfl) (fun _ _ => rfl) (fun _ hb => up2_same hb) (put_r (fun _ _ _ => rfl)) (fun h => Tt_sr h trivial) dX1_init_261 ?_
  refine J_ltM (fun M66 => ?_)
  refine J_aload_n (pc := 264) dX1_init_264 rfl ?_
  refine J_bipush (pc := 265) 100 dX1_init_265 (by decide) ?_
  refine J_newa (pc := 267) (atype := .int) (c := 20) (N := 100) (by decide) (by decide) rfl q175 (by decide) (by decide) (Nat.le_of_ble_eq_true rfl) (fun _ _ => nw_d20) (fun h => Tt_nw h) dX1_init_267 ?_
  refine J_ltM (fun M67 => ?_)
  refine J_ckk (fun h33 => ?_)
  refine J_put (pc := 269) (a := 20) (v := va_rf (some M66.n)) (M' := M67.sr 20 55 (some M66.n)) (c := 0) rfl in_X1 tyX1_ok fnX1 55 (by decide) q239 rfl (Or.inr ⟨rfl, rfl, rfl⟩) (fun _ => h33) (fun ad => (nrw_r _ (Or.inr ⟨_, rfl⟩) (some M66.n) ad).1) (fun ad => (nrw_r _ (Or.inr ⟨_, rfl⟩) (some M66.n) ad).2) ⟨⟨rfl, rfl⟩, rfl⟩ (fun _ _ => rfl) (fun _ _ => rfl) (fun _ hb => up2_same hb) (put_r (fun _ _ _ => rfl)) (fun h => Tt_sr h trivial) dX1_init_269 ?_
  refine J_ltM (fun M68 => ?_)
  refine J_aload_n (pc := 272) dX1_init_272 rfl ?_
  refine J_sipush (pc := 273) 19968 dX1_init_273 (by decide) ?_
  refine J_newa (pc := 276) (atype := .int) (c := 20) (N := 19968) (by decide) (by decide) rfl q175 (by decide) (by decide) (Nat.le_of_ble_eq_true rfl) (fun _ _ => nw_d20) (fun h => Tt_nw h) dX1_init_276 ?_
  refine J_ltM (fun M69 => ?_)
  refine J_ckk (fun h34 => ?_)
  refine J_put (pc := 278) (a := 20) (v := va_rf (some M68.n)) (M' := M69.sr 20 56 (some M68.n)) (c := 0) rfl in_X1 tyX1_ok fnX1 56 (by decide) q240 rfl (Or.inr ⟨rfl, rfl, rfl⟩) (fun _ => h34) (fun ad => (nrw_r _ (Or.inr ⟨_, rfl⟩) (some M68.n) ad).1) (fun ad => (nrw_r _ (Or.inr ⟨_, rfl⟩) (some M68.n) ad).2) ⟨⟨rfl, rfl⟩, rfl⟩ (fun _ _ => rfl) (fun _ _ => rfl) (fun _ hb => up2_same hb) (put_r (fun _ _ _ => rfl)) (fun h => Tt_sr h trivial) dX1_init_278 ?_
  refine J_ltM (fun M70 => ?_)
  refine J_aload_n (pc := 281) dX1_init_281 rfl ?_
  refine J_iconst (pc := 282) 5 dX1_init_282 (by decide) ?_
  refine J_newa (pc := 283) (atype := .int) (c := 20) (N := 5) (by decide) (by decide) rfl q175 (by decide) (by decide) (Nat.le_of_ble_eq_true rfl) (fun _ _ => nw_d20) (fun h => Tt_nw h) dX1_init_283 ?_
  refine J_ltM (fun M71 => ?_)
  refine J_ckk (fun h35 => ?_)
  refine J_put (pc := 285) (a := 20) (v := va_rf (some M70.n)) (M' := M71.sr 20 58 (some M70.n)) (c := 0) rfl in_X1 tyX1_ok fnX1 58 (by decide) q242 rfl (Or.inr ⟨rfl, rfl, rfl⟩) (fun _ => h35) (fun ad => (nrw_r _ (Or.inr ⟨_, rfl⟩) (some M70.n) ad).1) (fun ad => (nrw_r _ (Or.inr ⟨_, rfl⟩) (some M70.n) ad).2) ⟨⟨rfl, rfl⟩, rfl⟩ (fun _ _ => rfl) (fun _ _ => rfl) (fun _ hb => up2_same hb) (put_r (fun _ _ _ => rfl)) (fun h => Tt_sr h trivial) dX1_init_285 ?_
  refine J_ltM (fun M72 => ?_)
  refine J_aload_n (pc := 288) dX1_init_288 rfl ?_
  refine J_iconst (pc := 289) 4 dX1_init_289 (by decide) ?_
  refine J_newa (pc := 290) (atype := .int) (c := 20) (N := 4) (by decide) (by decide) rfl q175 (by decide) (by decide) (Nat.le_of_ble_eq_true rfl) (fun _ _ => nw_d20) (fun h => Tt_nw h) dX1_init_290 ?_
  refine J_ltM (fun M73 => ?_)
  refine J_ckk (fun h36 => ?_)
  refine J_put (pc := 292) (a := 20) (v := va_rf (some M72.n)) (M' := M73.sr 20 59 (some M72.n)) (c := 0) rfl in_X1 tyX1_ok fnX1 59 (by decide) q243 rfl (Or.inr ⟨rfl, rfl, rfl⟩) (fun _ => h36) (fun ad => (nrw_r _ (Or.inr ⟨_, rfl⟩) (some M72.n) ad).1) (fun ad => (nrw_r _ (Or.inr ⟨_, rfl⟩) (some M72.n) ad).2) ⟨⟨rfl, rfl⟩, rfl⟩ (fun _ _ => rfl) (fun _ _ => rfl) (fun _ hb => up2_same hb) (put_r (fun _ _ _ => rfl)) (fun h => Tt_sr h trivial) dX1_init_292 ?_
  refine J_ltM (fun M74 => ?_)
  refine J_aload_n (pc := 295) dX1_init_295 rfl ?_
  refine J_iconst (pc := 296) 4 dX1_init_296 (by decide) ?_
  refine J_newa (pc := 297) (atype := .int) (c := 20) (N := 4) (by decide) (by decide) rfl q175 (by decide) (by decide) (Nat.le_of_ble_eq_true rfl) (fun _ _ => nw_d20) (fun h => Tt_nw h) dX1_init_297 ?_
  refine J_ltM (fun M75 => ?_)
  refine J_ckk (fun h37 => ?_)
  refine J_put (pc := 299) (a := 20) (v := va_rf (some M74.n)) (M' := M75.sr 20 60 (some M74.n)) (c := 0) rfl in_X1 tyX1_ok fnX1 60 (by decide) q244 rfl (Or.inr ⟨rfl, rfl, rfl⟩) (fun _ => h37) (fun ad => (nrw_r _ (Or.inr ⟨_, rfl⟩) (some M74.n) ad).1) (fun ad => (nrw_r _ (Or.inr ⟨_, rfl⟩) (some M74.n) ad).2) ⟨⟨rfl, rfl⟩, rfl⟩ (fun _ _ => rfl) (fun _ _ => rfl) (fun _ hb => up2_same hb) (put_r (fun _ _ _ => rfl)) (fun h => Tt_sr h trivial) dX1_init_299 ?_
  refine J_ltM (fun M76 => ?_)
  refine J_aload_n (pc := 302) dX1_init_302 rfl ?_
  refine J_iconst (pc := 303) 2 dX1_init_303 (by decide) ?_
  refine J_anew (pc := 304) (N := 2) q144 (by decide) (by decide) (Nat.le_of_ble_eq_true rfl) (fun h => Tt_nw h) dX1_init_304 ?_
  refine J_ltM (fun M77 => ?_)
  refine J_ckk (fun h38 => ?_)
  refine J_put (pc := 307) (a := 20) (v := va_rf (some M76.n)) (M' := M77.sr 20 64 (some M76.n)) (c := 0) rfl in_X1 tyX1_ok fnX1 64 (by decide) q248 rfl (Or.inr ⟨rfl, rfl, rfl⟩) (fun _ => h38) (fun ad => (nrw_r _ (Or.inr ⟨_, rfl⟩) (some M76.n) ad).1) (fun ad => (nrw_r _ (Or.inr ⟨_, rfl⟩) (some M76.n) ad).2) ⟨⟨rfl, rfl⟩, rfl⟩ (fun _ _ => rfl) (fun _ _ => rfl) (fun _ hb => up2_same hb) (put_r (fun _ _ _ => rfl)) (fun h => Tt_sr h trivial) dX1_init_307 ?_
  refine J_ltM (fun M78 => ?_)
  refine J_aload_n (pc := 310) dX1_init_310 rfl ?_
  refine J_iconst (pc := 311) 2 dX1_init_311 (by decide) ?_
  refine J_newa (pc := 312) (atype := .int) (c := 20) (N := 2) (by decide) (by decide) rfl q175 (by decide) (by decide) (Nat.le_of_ble_eq_true rfl) (fun _ _ => nw_d20) (fun h => Tt_nw h) dX1_init_312 ?_
  refine J_ltM (fun M79 => ?_)
  refine J_ckk (fun h39 => ?_)
  refine J_put (pc := 314) (a := 20) (v := va_rf (some M78.n)) (M' := M79.sr 20 65 (some M78.n)) (c := 0) rfl in_X1 tyX1_ok fnX1 65 (by decide) q249 rfl (Or.inr ⟨rfl, rfl, rfl⟩) (fun _ => h39) (fun ad => (nrw_r _ (Or.inr ⟨_, rfl⟩) (some M78.n) ad).1) (fun ad => (nrw_r _ (Or.inr ⟨_, rfl⟩) (some M78.n) ad).2) ⟨⟨rfl, rfl⟩, rfl⟩ (fun _ _ => rfl) (fun _ _ => rfl) (fun _ hb => up2_same hb) (put_r (fun _ _ _ => rfl)) (fun h => Tt_sr h trivial) dX1_init_314 ?_
  refine J_ltM (fun M80 => ?_)
  refine J_aload_n (pc := 317) dX1_init_317 rfl ?_
  refine J_bipush (pc := 318) 16 dX1_init_318 (by decide) ?_
  refine J_newa (pc := 320) (atype := .long) (c := 23) (N := 16) (by decide) (by decide) rfl q389 (by decide) (by decide) (Nat.le_of_ble_eq_true rfl) (fun _ _ => nw_d23) (fun h => Tt_nw h) dX1_init_320 ?_
  refine J_ltM (fun M81 => ?_)
  refine J_ckk (fun h40 => ?_)
  refine J_put (pc := 322) (a := 20) (v := va_rf (some M80.n)) (M' := M81.sr 20 66 (some M80.n)) (c := 0) rfl in_X1 tyX1_ok fnX1 66 (by decide) q250 rfl (Or.inr ⟨rfl, rfl, rfl⟩) (fun _ => h40) (fun ad => (nrw_r _ (Or.inr ⟨_, rfl⟩) (some M80.n) ad).1) (fun ad => (nrw_r _ (Or.inr ⟨_, rfl⟩) (some M80.n) ad).2) ⟨⟨rfl, rfl⟩, rfl⟩ (fun _ _ => rfl) (fun _ _ => rfl) (fun _ hb => up2_same hb) (put_r (fun _ _ _ => rfl)) (fun h => Tt_sr h trivial) dX1_init_322 ?_
  refine J_ltM (fun M82 => ?_)
  exact J_ret (pc := 325) dX1_init_325

theorem C_x_init_i (l : Launch) (M : PM) : Ctr l Tt yX1_init cX1_init 1 none 2 rvU [.ref 20] M (x_init_i M) := Ctr.of (by decide +kernel) (Nat.le_of_ble_eq_true rfl) (fun G => t_x_init_i G M)

abbrev T_m_init_i (G : JG) (M : PM) (pc : Nat) (L : List (Option Value)) (S : List Value) (o : Option (Unit × PM)) : Prop := JJ G cX3_init yX3_init 1 1 none Tt (finR G Tt rvU) M pc L S o
def m_init_i (M : PM) : Option (Unit × PM) :=
    lt (M.nw 20 44 44) fun M1 =>
    ckk M1 72 2 <|
    lt (M1.sr 72 0 (some M.n)) fun M2 =>
    ckk M2 72 2 <|
    lt (M2.si 72 1 1) fun M3 =>
    lt (M3.nw 21 60 60) fun M4 =>
    ckk M4 72 2 <|
    lt (M4.sr 72 3 (some M3.n)) fun M5 =>
    lt (M5.nw 20 10 10) fun M6 =>
    ckk M6 72 2 <|
    lt (M6.sr 72 4 (some M5.n)) fun M7 =>
    lt (M7.nw 20 20 20) fun M8 =>
    ckk M8 72 2 <|
    lt (M8.sr 72 5 (some M7.n)) fun M9 =>
    lt (M9.nw 20 32 32) fun M10 =>
    ckk M10 72 2 <|
    lt (M10.sr 72 8 (some M9.n)) fun M11 =>
    lt (M11.nw 21 80 80) fun M12 =>
    ckk M12 72 2 <|
    lt (M12.sr 72 9 (some M11.n)) fun M13 =>
    lt (M13.nw 23 20 20) fun M14 =>
    ckk M14 72 2 <|
    lt (M14.sr 72 11 (some M13.n)) fun M15 =>
    lt (M15.nw 21 60 60) fun M16 =>
    ckk M16 72 2 <|
    lt (M16.sr 72 19 (some M15.n)) fun M17 =>
    lt (M17.nw 20 10 10) fun M18 =>
    ckk M18 72 2 <|
    lt (M18.sr 72 20 (some M17.n)) fun M19 =>
    lt (M19.nw 20 40 40) fun M20 =>
    ckk M20 72 2 <|
    lt (M20.sr 72 21 (some M19.n)) fun M21 =>
    lt (M21.nw 21 40 40) fun M22 =>
    ckk M22 72 2 <|
    lt (M22.sr 72 22 (some M21.n)) fun M23 =>
    lt (M23.nw 21 40 40) fun M24 =>
    ckk M24 72 2 <|
    lt (M24.sr 72 23 (some M23.n)) fun M25 =>
    lt (M25.nw 20 7 7) fun M26 =>
    ckk M26 72 2 <|
    lt (M26.sr 72 26 (some M25.n)) fun M27 =>
    lt (M27.nw 20 5 5) fun M28 =>
    ckk M28 72 2 <|
    lt (M28.sr 72 27 (some M27.n)) fun M29 =>
    lt (M29.nw 20 528 528) fun M30 =>
    ckk M30 72 2 <|
    lt (M30.sr 72 28 (some M29.n)) fun M31 =>
    lt (M31.nw 20 44 44) fun M32 =>
    ckk M32 72 2 <|
    lt (M32.sr 72 30 (some M31.n)) fun M33 =>
    lt (M33.nw 20 240 240) fun M34 =>
    ckk M34 72 2 <|
    lt (M34.sr 72 32 (some M33.n)) fun M35 =>
    lt (M35.nw 20 13 13) fun M36 =>
    ckk M36 72 2 <|
    lt (M36.sr 72 34 (some M35.n)) fun M37 =>
    lt (M37.nw 20 6 6) fun M38 =>
    ckk M38 72 2 <|
    lt (M38.sr 72 35 (some M37.n)) fun M39 =>
    lt (M39.nw 20 6 6) fun M40 =>
    ckk M40 72 2 <|
    lt (M40.sr 72 36 (some M39.n)) fun M41 =>
    lt (M41.nw 20 49 49) fun M42 =>
    ckk M42 72 2 <|
    lt (M42.sr 72 37 (some M41.n)) fun M43 =>
    lt (M43.nw 20 1536 1536) fun M44 =>
    ckk M44 72 2 <|
    lt (M44.sr 72 38 (some M43.n)) fun M45 =>
    lt (M45.nw 20 1536 1536) fun M46 =>
    ckk M46 72 2 <|
    lt (M46.sr 72 39 (some M45.n)) fun M47 =>
    lt (M47.nw 20 10 10) fun M48 =>
    ckk M48 72 2 <|
    lt (M48.sr 72 44 (some M47.n)) fun M49 =>
    lt (M49.nw 20 5 5) fun M50 =>
    ckk M50 72 2 <|
    lt (M50.sr 72 45 (some M49.n)) fun M51 =>
    lt (M51.nw 20 4 4) fun M52 =>
    ckk M52 72 2 <|
    lt (M52.sr 72 46 (some M51.n)) fun M53 =>
    lt (M53.nw 20 4 4) fun M54 =>
    ckk M54 72 2 <|
    lt (M54.sr 72 47 (some M53.n)) fun M55 =>
    lt (M55.nw 20 44 44) fun M56 =>
    ckk M56 72 2 <|
    lt (M56.sr 72 51 (some M55.n)) fun M57 =>
    lt (M57.nw 20 88 88) fun M58 =>
    ckk M58 72 2 <|
    lt (M58.sr 72 53 (some M57.n)) fun M59 =>
    lt (M59.nw 22 2 2) fun M60 =>
    ckk M60 72 2 <|
    lt (M60.sr 72 54 (some M59.n)) fun M61 =>
    lt (M61.nw 20 2 2) fun M62 =>
    ckk M62 72 2 <|
    lt (M62.sr 72 55 (some M61.n)) fun M63 =>
    some ((), M63)

set_option maxHeartbeats 4000000 in
theorem t_m_init_i (G : JG) (M : PM) : T_m_init_i G  M 0 (ent [.ref 72] 1) [] (m_init_i M) := by
  unfold m_init_i
  refine J_aload_n (pc := 0) dX3_init_0 rfl ?_
  refine J_obj (pc := 1) (by omega) q1106 q142 q143 (by decide) dX3_init_1 ?_
  refine J_aload_n (pc := 4) dX3_init_4 rfl ?_
  refine J_bipush (pc := 5) 44 dX3_init_5 (by decide) ?_
  refine J_newa (pc := 7) (atype := .int) (c := 20) (N := 44) (by decide) (by decide) rfl q175 (by decide) (by decide) (Nat.le_of_ble_eq_true rfl) (fun _ _ => nw_d20) (fun h => Tt_nw h) dX3_init_7 ?_
  refine J_ltM (fun M1 => ?_)
  refine J_ckk (fun h1 => ?_)
  refine J_put (pc := 9) (a := 72) (v := va_rf (some M.n)) (M' := M1.sr 72 0 (some M.n)) (c := 2) rfl in_X3 tyX3_ok fnX3 0 (by decide) q1107 rfl (Or.inr ⟨rfl, rfl, rfl⟩) (fun _ => h1) (fun ad => (nrw_r _ (Or.inr ⟨_, rfl⟩) (some M.n) ad).1) (fun ad => (nrw_r _ (Or.inr ⟨_, rfl⟩) (some M.n) ad).2) ⟨⟨rfl, rfl⟩, rfl⟩ (fun _ _ => rfl) (fun _ _ => rfl) (fun _ hb => up2_same hb) (put_r (fun _ _ _ => rfl)) (fun h => Tt_sr h trivial) dX3_init_9 ?_
  refine J_ltM (fun M2 => ?_)
  refine J_aload_n (pc := 12) dX3_init_12 rfl ?_
  refine J_iconst (pc := 13) 1 dX3_init_13 (by decide) ?_
  refine J_ckk (fun h2 => ?_)
  refine J_put (pc := 14) (a := 72) (v := .int 1) (M' := M2.si 72 1 1) (c := 2) rfl in_X3 tyX3_ok fnX3 1 (by decide) q1108 rfl (Or.inl rfl) (fun _ => h2) (fun _ => rfl) (fun _ => rfl) ⟨⟨rfl, rfl⟩, rfl⟩ (fun _ hb => up2_same hb) (fun _ _ => rfl) (fun _ _ => rfl) (put_i (fun _ _ _ => rfl)) (fun h => Tt_si h) dX3_init_14 ?_
  refine J_ltM (fun M3 => ?_)
  refine J_aload_n (pc := 17) dX3_init_17 rfl ?_
  refine J_bipush (pc := 18) 60 dX3_init_18 (by decide) ?_
  refine J_newa (pc := 20) (atype := .byte) (c := 21) (N := 60) (by decide) (by decide) rfl q529 (by decide) (by decide) (Nat.le_of_ble_eq_true rfl) (fun _ _ => nw_d21) (fun h => Tt_nw h) dX3_init_20 ?_
  refine J_ltM (fun M4 => ?_)
  refine J_ckk (fun h3 => ?_)
  refine J_put (pc := 22) (a := 72) (v := va_rf (some M3.n)) (M' := M4.sr 72 3 (some M3.n)) (c := 2) rfl in_X3 tyX3_ok fnX3 3 (by decide) q1110 rfl (Or.inr ⟨rfl, rfl, rfl⟩) (fun _ => h3) (fun ad => (nrw_r _ (Or.inr ⟨_, rfl⟩) (some M3.n) ad).1) (fun ad => (nrw_r _ (Or.inr ⟨_, rfl⟩) (some M3.n) ad).2) ⟨⟨rfl, rfl⟩, rfl⟩ (fun _ _ => rfl) (fun _ _ => rfl) (fun _ hb => up2_same hb) (put_r (fun _ _ _ => rfl)) (fun h => Tt_sr h trivial) dX3_init_22 ?_
  refine J_ltM (fun M5 => ?_)
  refine J_aload_n (pc := 25) dX3_init_25 rfl ?_
  refine J_bipush (pc := 26) 10 dX3_init_26 (by decide) ?_
  refine J_newa (pc := 28) (atype := .int) (c := 20) (N := 10) (by decide) (by decide) rfl q175 (by decide) (by decide) (Nat.le_of_ble_eq_true rfl) (fun _ _ => nw_d20) (fun h => Tt_nw h) dX3_init_28 ?_
  refine J_ltM (fun M6 => ?_)
  refine J_ckk (fun h4 => ?_)
  refine J_put (pc := 30) (a := 72) (v := va_rf (some M5.n)) (M' := M6.sr 72 4 (some M5.n)) (c := 2) rfl in_X3 tyX3_ok fnX3 4 (by decide) q1111 rfl (Or.inr ⟨rfl, rfl, rfl⟩) (fun _ => h4) (fun ad => (nrw_r _ (Or.inr ⟨_, rfl⟩) (some M5.n) ad).1) (fun ad => (nrw_r _ (Or.inr ⟨_, rfl⟩) (some M5.n) ad).2) ⟨⟨rfl, rfl⟩, rfl⟩ (fun _ _ => rfl) (fun _ _ => rfl) (fun _ hb => up2_same hb) (put_r (fun _ _ _ => rfl)) (fun h => Tt_sr h trivial) dX3_init_30 ?_
  refine J_ltM (fun M7 => ?_)
  refine J_aload_n (pc := 33) dX3_init_33 rfl ?_
  refine J_bipush (pc := 34) 20 dX3_init_34 (by decide) ?_
  refine J_newa (pc := 36) (atype := .int) (c := 20) (N := 20) (by decide) (by decide) rfl q175 (by decide) (by decide) (Nat.le_of_ble_eq_true rfl) (fun _ _ => nw_d20) (fun h => Tt_nw h) dX3_init_36 ?_
  refine J_ltM (fun M8 => ?_)
  refine J_ckk (fun h5 => ?_)
  refine J_put (pc := 38) (a := 72) (v := va_rf (some M7.n)) (M' := M8.sr 72 5 (some M7.n)) (c := 2) rfl in_X3 tyX3_ok fnX3 5 (by decide) q1112 rfl (Or.inr ⟨rfl, rfl, rfl⟩) (fun _ => h5) (fun ad => (nrw_r _ (Or.inr ⟨_, rfl⟩) (some M7.n) ad).1) (fun ad => (nrw_r _ (Or.inr ⟨_, rfl⟩) (some M7.n) ad).2) ⟨⟨rfl, rfl⟩, rfl⟩ (fun _ _ => rfl) (fun _ _ => rfl) (fun _ hb => up2_same hb) (put_r (fun _ _ _ => rfl)) (fun h => Tt_sr h trivial) dX3_init_38 ?_
  refine J_ltM (fun M9 => ?_)
  refine J_aload_n (pc := 41) dX3_init_41 rfl ?_
  refine J_bipush (pc := 42) 32 dX3_init_42 (by decide) ?_
  refine J_newa (pc := 44) (atype := .int) (c := 20) (N := 32) (by decide) (by decide) rfl q175 (by decide) (by decide) (Nat.le_of_ble_eq_true rfl) (fun _ _ => nw_d20) (fun h => Tt_nw h) dX3_init_44 ?_
  refine J_ltM (fun M10 => ?_)
  refine J_ckk (fun h6 => ?_)
  refine J_put (pc := 46) (a := 72) (v := va_rf (some M9.n)) (M' := M10.sr 72 8 (some M9.n)) (c := 2) rfl in_X3 tyX3_ok fnX3 8 (by decide) q1115 rfl (Or.inr ⟨rfl, rfl, rfl⟩) (fun _ => h6) (fun ad => (nrw_r _ (Or.inr ⟨_, rfl⟩) (some M9.n) ad).1) (fun ad => (nrw_r _ (Or.inr ⟨_, rfl⟩) (some M9.n) ad).2) ⟨⟨rfl, rfl⟩, rfl⟩ (fun _ _ => rfl) (fun _ _ => rfl) (fun _ hb => up2_same hb) (put_r (fun _ _ _ => rfl)) (fun h => Tt_sr h trivial) dX3_init_46 ?_
  refine J_ltM (fun M11 => ?_)
  refine J_aload_n (pc := 49) dX3_init_49 rfl ?_
  refine J_bipush (pc := 50) 80 dX3_init_50 (by decide) ?_
  refine J_newa (pc := 52) (atype := .byte) (c := 21) (N := 80) (by decide) (by decide) rfl q529 (by decide) (by decide) (Nat.le_of_ble_eq_true rfl) (fun _ _ => nw_d21) (fun h => Tt_nw h) dX3_init_52 ?_
  refine J_ltM (fun M12 => ?_)
  refine J_ckk (fun h7 => ?_)
  refine J_put (pc := 54) (a := 72) (v := va_rf (some M11.n)) (M' := M12.sr 72 9 (some M11.n)) (c := 2) rfl in_X3 tyX3_ok fnX3 9 (by decide) q1116 rfl (Or.inr ⟨rfl, rfl, rfl⟩) (fun _ => h7) (fun ad => (nrw_r _ (Or.inr ⟨_, rfl⟩) (some M11.n) ad).1) (fun ad => (nrw_r _ (Or.inr ⟨_, rfl⟩) (some M11.n) ad).2) ⟨⟨rfl, rfl⟩, rfl⟩ (fun _ _ => rfl) (fun _ _ => rfl) (fun _ hb => up2_same hb) (put_r (fun _ _ _ => rfl)) (fun h => Tt_sr h trivial) dX3_init_54 ?_
  refine J_ltM (fun M13 => ?_)
  refine J_aload_n (pc := 57) dX3_init_57 rfl ?_
  refine J_bipush (pc := 58) 20 dX3_init_58 (by decide) ?_
  refine J_newa (pc := 60) (atype := .long) (c := 23) (N := 20) (by decide) (by decide) rfl q389 (by decide) (by decide) (Nat.le_of_ble_eq_true rfl) (fun _ _ => nw_d23) (fun h => Tt_nw h) dX3_init_60 ?_
  refine J_ltM (fun M14 => ?_)
  refine J_ckk (fun h8 => ?_)
  refine J_put (pc := 62) (a := 72) (v := va_rf (some M13.n)) (M' := M14.sr 72 11 (some M13.n)) (c := 2) rfl in_X3 tyX3_ok fnX3 11 (by decide) q1118 rfl (Or.inr ⟨rfl, rfl, rfl⟩) (fun _ => h8) (fun ad => (nrw_r _ (Or.inr ⟨_, rfl⟩) (some M13.n) ad).1) (fun ad => (nrw_r _ (Or.inr ⟨_, rfl⟩) (some M13.n) ad).2) ⟨⟨rfl, rfl⟩, rfl⟩ (fun _ _ => rfl) (fun _ _ => rfl) (fun _ hb => up2_same hb) (put_r (fun _ _ _ => rfl)) (fun h => Tt_sr h trivial) dX3_init_62 ?_
  refine J_ltM (fun M15 => ?_)
  refine J_aload_n (pc := 65) dX3_init_65 rfl ?_
  refine J_bipush (pc := 66) 60 dX3_init_66 (by decide) ?_
  refine J_newa (pc := 68) (atype := .byte) (c := 21) (N := 60) (by decide) (by decide) rfl q529 (by decide) (by decide) (Nat.le_of_ble_eq_true rfl) (fun _ _ => nw_d21) (fun h => Tt_nw h) dX3_init_68 ?_
  refine J_ltM (fun M16 => ?_)
  refine J_ckk (fun h9 => ?_)
  refine J_put (pc := 70) (a := 72) (v := va_rf (some M15.n)) (M' := M16.sr 72 19 (some M15.n)) (c := 2) rfl in_X3 tyX3_ok fnX3 19 (by decide) q1126 rfl (Or.inr ⟨rfl, rfl, rfl⟩) (fun _ => h9) (fun ad => (nrw_r _ (Or.inr ⟨_, rfl⟩) (some M15.n) ad).1) (fun ad => (nrw_r _ (Or.inr ⟨_, rfl⟩) (some M15.n) ad).2) ⟨⟨rfl, rfl⟩, rfl⟩ (fun _ _ => rfl) (fun _ _ => rfl) (fun _ hb => up2_same hb) (put_r (fun _ _ _ => rfl)) (fun h => Tt_sr h trivial) dX3_init_70 ?_
  refine J_ltM (fun M17 => ?_)
  refine J_aload_n (pc := 73) dX3_init_73 rfl ?_
  refine J_bipush (pc := 74) 10 dX3_init_74 (by decide) ?_
  refine J_newa (pc := 76) (atype := .int) (c := 20) (N := 10) (by decide) (by decide) rfl q175 (by decide) (by decide) (Nat.le_of_ble_eq_true rfl) (fun _ _ => nw_d20) (fun h => Tt_nw h) dX3_init_76 ?_
  refine J_ltM (fun M18 => ?_)
  refine J_ckk (fun h10 => ?_)
  refine J_put (pc := 78) (a := 72) (v := va_rf (some M17.n)) (M' := M18.sr 72 20 (some M17.n)) (c := 2) rfl in_X3 tyX3_ok fnX3 20 (by decide) q1127 rfl (Or.inr ⟨rfl, rfl, rfl⟩) (fun _ => h10) (fun ad => (nrw_r _ (Or.inr ⟨_, rfl⟩) (some M17.n) ad).1) (fun ad => (nrw_r _ (Or.inr ⟨_, rfl⟩) (some M17.n) ad).2) ⟨⟨rfl, rfl⟩, rfl⟩ (fun _ _ => rfl) (fun _ _ => rfl) (fun _ hb => up2_same hb) (put_r (fun _ _ _ => rfl)) (fun h => Tt_sr h trivial) dX3_init_78 ?_
  refine J_ltM (fun M19 => ?_)
  refine J_aload_n (pc := 81) dX3_init_81 rfl ?_
  refine J_bipush (pc := 82) 40 dX3_init_82 (by decide) ?_
  refine J_newa (pc := 84) (atype := .int) (c := 20) (N := 40) (by decide) (by decide) rfl q175 (by decide) (by decide) (Nat.le_of_ble_eq_true rfl) (fun _ _ => nw_d20) (fun h => Tt_nw h) dX3_init_84 ?_
  refine J_ltM (fun M20 => ?_)
  refine J_ckk (fun h11 => ?_)
  refine J_put (pc := 86) (a := 72) (v := va_rf (some M19.n)) (M' := M20.sr 72 21 (some M19.n)) (c := 2) rfl in_X3 tyX3_ok fnX3 21 (by decide) q1128 rfl (Or.inr ⟨rfl, rfl, rfl⟩) (fun _ => h11) (fun ad => (nrw_r _ (Or.inr ⟨_, rfl⟩) (some M19.n) ad).1) (fun ad => (nrw_r _ (Or.inr ⟨_, rfl⟩) (some M19.n) ad).2) ⟨⟨rfl, rfl⟩, rfl⟩ (fun _ _ => rfl) (fun _ _ => rfl) (fun _ hb => up2_same hb) (put_r (fun _ _ _ => rfl)) (fun h => Tt_sr h trivial) dX3_init_86 ?_
  refine J_ltM (fun M21 => ?_)
  refine J_aload_n (pc := 89) dX3_init_89 rfl ?_
  refine J_bipush (pc := 90) 40 dX3_init_90 (by decide) ?_
  refine J_newa (pc := 92) (atype := .byte) (c := 21) (N := 40) (by decide) (by decide) rfl q529 (by decide) (by decide) (Nat.le_of_ble_eq_true rfl) (fun _ _ => nw_d21) (fun h => Tt_nw h) dX3_init_92 ?_
  refine J_ltM (fun M22 => ?_)
  refine J_ckk (fun h12 => ?_)
  refine J_put (pc := 94) (a := 72) (v := va_rf (some M21.n)) (M' := M22.sr 72 22 (some M21.n)) (c := 2) rfl in_X3 tyX3_ok fnX3 22 (by decide) q1129 rfl (Or.inl rfl) (fun _ => h12) (fun ad => (nrw_r _ (Or.inr ⟨_, rfl⟩) (some M21.n) ad).1) (fun ad => (nrw_r _ (Or.inr ⟨_, rfl⟩) (some M21.n) ad).2) ⟨⟨rfl, rfl⟩, rfl⟩ (fun _ _ => rfl) (fun _ _ => rfl) (fun _ hb => up2_same hb) (put_r (fun _ _ _ => rfl)) (fun h => Tt_sr h trivial) dX3_init_94 ?_
  refine J_ltM (fun M23 => ?_)
  refine J_aload_n (pc := 97) dX3_init_97 rfl ?_
  refine J_bipush (pc := 98) 40 dX3_init_98 (by decide) ?_
  refine J_newa (pc := 100) (atype := .byte) (c := 21) (N := 40) (by decide) (by decide) rfl q529 (by decide) (by decide) (Nat.le_of_ble_eq_true rfl) (fun _ _ => nw_d21) (fun h => Tt_nw h) dX3_init_100 ?_
  refine J_ltM (fun M24 => ?_)
  refine J_ckk (fun h13 => ?_)
  refine J_put (pc := 102) (a := 72) (v := va_rf (some M23.n)) (M' := M24.sr 72 23 (some M23.n)) (c := 2) rfl in_X3 tyX3_ok fnX3 23 (by decide) q1130 rfl (Or.inl rfl) (fun _ => h13) (fun ad => (nrw_r _ (Or.inr ⟨_, rfl⟩) (some M23.n) ad).1) (fun ad => (nrw_r _ (Or.inr ⟨_, rfl⟩) (some M23.n) ad).2) ⟨⟨rfl, rfl⟩, rfl⟩ (fun _ _ => rfl) (fun _ _ => rfl) (fun _ hb => up2_same hb) (put_r (fun _ _ _ => rfl)) (fun h => Tt_sr h trivial) dX3_init_102 ?_
  refine J_ltM (fun M25 => ?_)
  refine J_aload_n (pc := 105) dX3_init_105 rfl ?_
  refine J_bipush (pc := 106) 7 dX3_init_106 (by decide) ?_
  refine J_newa (pc := 108) (atype := .int) (c := 20) (N := 7) (by decide) (by decide) rfl q175 (by decide) (by decide) (Nat.le_of_ble_eq_true rfl) (fun _ _ => nw_d20) (fun h => Tt_nw h) dX3_init_108 ?_
  refine J_ltM (fun M26 => ?_)
  refine J_ckk (fun h14 => ?_)
  refine J_put (pc := 110) (a := 72) (v := va_rf (some M25.n)) (M' := M26.sr 72 26 (some M25.n)) (c := 2) rfl in_X3 tyX3_ok fnX3 26 (by decide) q1133 rfl (Or.inr ⟨rfl, rfl, rfl⟩) (fun _ => h14) (fun ad => (nrw_r _ (Or.inr ⟨_, rfl⟩) (some M25.n) ad).1) (fun ad => (nrw_r _ (Or.inr ⟨_, rfl⟩) (some M25.n) ad).2) ⟨⟨rfl, rfl⟩, rfl⟩ (fun _ _ => rfl) (fun _ _ => rfl) (fun _ hb => up2_same hb) (put_r (fun _ _ _ => rfl)) (fun h => Tt_sr h trivial) dX3_init_110 ?_
  refine J_ltM (fun M27 => ?_)
  refine J_aload_n (pc := 113) dX3_init_113 rfl ?_
  refine J_iconst (pc := 114) 5 dX3_init_114 (by decide) ?_
  refine J_newa (pc := 115) (atype := .int) (c := 20) (N := 5) (by decide) (by decide) rfl q175 (by decide) (by decide) (Nat.le_of_ble_eq_true rfl) (fun _ _ => nw_d20) (fun h => Tt_nw h) dX3_init_115 ?_
  refine J_ltM (fun M28 => ?_)
  refine J_ckk (fun h15 => ?_)
  refine J_put (pc := 117) (a := 72) (v := va_rf (some M27.n)) (M' := M28.sr 72 27 (some M27.n)) (c := 2) rfl in_X3 tyX3_ok fnX3 27 (by decide) q1134 rfl (Or.inr ⟨rfl, rfl, rfl⟩) (fun _ => h15) (fun ad => (nrw_r _ (Or.inr ⟨_, rfl⟩) (some M27.n) ad).1) (fun ad => (nrw_r _ (Or.inr ⟨_, rfl⟩) (some M27.n) ad).2) ⟨⟨rfl, rfl⟩, rfl⟩ (fun _ _ => rfl) (fun _ _ => rfl) (fun _ hb => up2_same hb) (put_r (fun _ _ _ => rfl)) (fun h => Tt_sr h trivial) dX3_init_117 ?_
  refine J_ltM (fun M29 => ?_)
  refine J_aload_n (pc := 120) dX3_init_120 rfl ?_
  refine J_sipush (pc := 121) 528 dX3_init_121 (by decide) ?_
  refine J_newa (pc := 124) (atype := .int) (c := 20) (N := 528) (by decide) (by decide) rfl q175 (by decide) (by decide) (Nat.le_of_ble_eq_true rfl) (fun _ _ => nw_d20) (fun h => Tt_nw h) dX3_init_124 ?_
  refine J_ltM (fun M30 => ?_)
  refine J_ckk (fun h16 => ?_)
  refine J_put (pc := 126) (a := 72) (v := va_rf (some M29.n)) (M' := M30.sr 72 28 (some M29.n)) (c := 2) rfl in_X3 tyX3_ok fnX3 28 (by decide) q1135 rfl (Or.inr ⟨rfl, rfl, rfl⟩) (fun _ => h16) (fun ad => (nrw_r _ (Or.inr ⟨_, rfl⟩) (some M29.n) ad).1) (fun ad => (nrw_r _ (Or.inr ⟨_, rfl⟩) (some M29.n) ad).2) ⟨⟨rfl, rfl⟩, rfl⟩ (fun _ _ => rfl) (fun _ _ => rfl) (fun _ hb => up2_same hb) (put_r (fun _ _ _ => rfl)) (fun h => Tt_sr h trivial) dX3_init_126 ?_
  refine J_ltM (fun M31 => ?_)
  refine J_aload_n (pc := 129) dX3_init_129 rfl ?_
  refine J_bipush (pc := 130) 44 dX3_init_130 (by decide) ?_
  refine J_newa (pc := 132) (atype := .int) (c := 20) (N := 44) (by decide) (by decide) rfl q175 (by decide) (by decide) (Nat.le_of_ble_eq_true rfl) (fun _ _ => nw_d20) (fun h => Tt_nw h) dX3_init_132 ?_
  refine J_ltM (fun M32 => ?_)
  refine J_ckk (fun h17 => ?_)
  refine J_put (pc := 134) (a := 72) (v := va_rf (some M31.n)) (M' := M32.sr 72 30 (some M31.n)) (c := 2) rfl in_X3 tyX3_ok fnX3 30 (by decide) q1137 rfl (Or.inr ⟨rfl, rfl, rfl⟩) (fun _ => h17) (fun ad => (nrw_r _ (Or.inr ⟨_, rfl⟩) (some M31.n) ad).1) (fun ad => (nrw_r _ (Or.inr ⟨_, rfl⟩) (some M31.n) ad).2) ⟨⟨rfl, rfl⟩, rfl⟩ (fun _ _ => rfl) (fun _ _ => rfl) (fun _ hb => up2_same hb) (put_r (fun _ _ _ => rfl)) (fun h => Tt_sr h trivial) dX3_init_134 ?_
  refine J_ltM (fun M33 => ?_)
  refine J_aload_n (pc := 137) dX3_init_137 rfl ?_
  refine J_sipush (pc := 138) 240 dX3_init_138 (by decide) ?_
  refine J_newa (pc := 141) (atype := .int) (c := 20) (N := 240) (by decide) (by decide) rfl q175 (by decide) (by decide) (Nat.le_of_ble_eq_true rfl) (fun _ _ => nw_d20) (fun h => Tt_nw h) dX3_init_141 ?_
  refine J_ltM (fun M34 => ?_)
  refine J_ckk (fun h18 => ?_)
  refine J_put (pc := 143) (a := 72) (v := va_rf (some M33.n)) (M' := M34.sr 72 32 (some M33.n)) (c := 2) rfl in_X3 tyX3_ok fnX3 32 (by decide) q1139 rfl (Or.inr ⟨rfl, rfl, rfl⟩) (fun _ => h18) (fun ad => (nrw_r _ (Or.inr ⟨_, rfl⟩) (some M33.n) ad).1) (fun ad => (nrw_r _ (Or.inr ⟨_, rfl⟩) (some M33.n) ad).2) ⟨⟨rfl, rfl⟩, rfl⟩ (fun _ _ => rfl) (fun _ _ => rfl) (fun _ hb => up2_same hb) (put_r (fun _ _ _ => rfl)) (fun h => Tt_sr h trivial) dX3_init_143 ?_
  refine J_ltM (fun M35 => ?_)
  refine J_aload_n (pc := 146) dX3_init_146 rfl ?_
  refine J_bipush (pc := 147) 13 dX3_init_147 (by decide) ?_
  refine J_newa (pc := 149) (atype := .int) (c := 20) (N := 13) (by decide) (by decide) rfl q175 (by decide) (by decide) (Nat.le_of_ble_eq_true rfl) (fun _ _ => nw_d20) (fun h => Tt_nw h) dX3_init_149 ?_
  refine J_ltM (fun M36 => ?_)
  refine J_ckk (fun h19 => ?_)
  refine J_put (pc := 151) (a := 72) (v := va_rf (some M35.n)) (M' := M36.sr 72 34 (some M35.n)) (c := 2) rfl in_X3 tyX3_ok fnX3 34 (by decide) q1141 rfl (Or.inr ⟨rfl, rfl, rfl⟩) (fun _ => h19) (fun ad => (nrw_r _ (Or.inr ⟨_, rfl⟩) (some M35.n) ad).1) (fun ad => (nrw_r _ (Or.inr ⟨_, rfl⟩) (some M35.n) ad).2) ⟨⟨rfl, rfl⟩, rfl⟩ (fun _ _ => rfl) (fun _ _ => rfl) (fun _ hb => up2_same hb) (put_r (fun _ _ _ => rfl)) (fun h => Tt_sr h trivial) dX3_init_151 ?_
  refine J_ltM (fun M37 => ?_)
  refine J_aload_n (pc := 154) dX3_init_154 rfl ?_
  refine J_bipush (pc := 155) 6 dX3_init_155 (by decide) ?_
  refine J_newa (pc := 157) (atype := .int) (c := 20) (N := 6) (by decide) (by decide) rfl q175 (by decide) (by decide) (Nat.le_of_ble_eq_true rfl) (fun _ _ => nw_d20) (fun h => Tt_nw h) dX3_init_157 ?_
  refine J_ltM (fun M38 => ?_)
  refine J_ckk (fun h20 => ?_)
  refine J_put (pc := 159) (a := 72) (v := va_rf (some M37.n)) (M' := M38.sr 72 35 (some M37.n)) (c := 2) rfl in_X3 tyX3_ok fnX3 35 (by decide) q1142 rfl (Or.inr ⟨rfl, rfl, rfl⟩) (fun _ => h20) (fun ad => (nrw_r _ (Or.inr ⟨_, rfl⟩) (some M37.n) ad).1) (fun ad => (nrw_r _ (Or.inr ⟨_, rfl⟩) (some M37.n) ad).2) ⟨⟨rfl, rfl⟩, rfl⟩ (fun _ _ => rfl) (fun _ _ => rfl) (fun _ hb => up2_same hb) (put_r (fun _ _ _ => rfl)) (fun h => Tt_sr h trivial) dX3_init_159 ?_
  refine J_ltM (fun M39 => ?_)
  refine J_aload_n (pc := 162) dX3_init_162 rfl ?_
  refine J_bipush (pc := 163) 6 dX3_init_163 (by decide) ?_
  refine J_newa (pc := 165) (atype := .int) (c := 20) (N := 6) (by decide) (by decide) rfl q175 (by decide) (by decide) (Nat.le_of_ble_eq_true rfl) (fun _ _ => nw_d20) (fun h => Tt_nw h) dX3_init_165 ?_
  refine J_ltM (fun M40 => ?_)
  refine J_ckk (fun h21 => ?_)
  refine J_put (pc := 167) (a := 72) (v := va_rf (some M39.n)) (M' := M40.sr 72 36 (some M39.n)) (c := 2) rfl in_X3 tyX3_ok fnX3 36 (by decide) q1143 rfl (Or.inr ⟨rfl, rfl, rfl⟩) (fun _ => h21) (fun ad => (nrw_r _ (Or.inr ⟨_, rfl⟩) (some M39.n) ad).1) (fun ad => (nrw_r _ (Or.inr ⟨_, rfl⟩) (some M39.n) ad).2) ⟨⟨rfl, rfl⟩, rfl⟩ (fun _ _ => rfl) (fun _ _ => rfl) (fun _ hb => up2_same hb) (put_r (fun _ _ _ => rfl)) (fun h => Tt_sr h trivial) dX3_init_167 ?_
  refine J_ltM (fun M41 => ?_)
  refine J_aload_n (pc := 170) dX3_init_170 rfl ?_
  refine J_bipush (pc := 171) 49 dX3_init_171 (by decide) ?_
  refine J_newa (pc := 173) (atype := .int) (c := 20) (N := 49) (by decide) (by decide) rfl q175 (by decide) (by decide) (Nat.le_of_ble_eq_true rfl) (fun _ _ => nw_d20) (fun h => Tt_nw h) dX3_init_173 ?_
  refine J_ltM (fun M42 => ?_)
  refine J_ckk (fun h22 => ?_)
  refine J_put (pc := 175) (a := 72) (v := va_rf (some M41.n)) (M' := M42.sr 72 37 (some M41.n)) (c := 2) rfl in_X3 tyX3_ok fnX3 37 (by decide) q1144 rfl (Or.inr ⟨rfl, rfl, rfl⟩) (fun _ => h22) (fun ad => (nrw_r _ (Or.inr ⟨_, rfl⟩) (some M41.n) ad).1) (fun ad => (nrw_r _ (Or.inr ⟨_, rfl⟩) (some M41.n) ad).2) ⟨⟨rfl, rfl⟩, rfl⟩ (fun _ _ => rfl) (fun _ _ => rfl) (fun _ hb => up2_same hb) (put_r (fun _ _ _ => rfl)) (fun h => Tt_sr h trivial) dX3_init_175 ?_
  refine J_ltM (fun M43 => ?_)
  refine J_aload_n (pc := 178) dX3_init_178 rfl ?_
  refine J_sipush (pc := 179) 1536 dX3_init_179 (by decide) ?_
  refine J_newa (pc := 182) (atype := .int) (c := 20) (N := 1536) (by decide) (by decide) rfl q175 (by decide) (by decide) (Nat.le_of_ble_eq_true rfl) (fun _ _ => nw_d20) (fun h => Tt_nw h) dX3_init_182 ?_
  refine J_ltM (fun M44 => ?_)
  refine J_ckk (fun h23 => ?_)
  refine J_put (pc := 184) (a := 72) (v := va_rf (some M43.n)) (M' := M44.sr 72 38 (some M43.n)) (c := 2) rfl in_X3 tyX3_ok fnX3 38 (by decide) q1145 rfl (Or.inr ⟨rfl, rfl, rfl⟩) (fun _ => h23) (fun ad => (nrw_r _ (Or.inr ⟨_, rfl⟩) (some M43.n) ad).1) (fun ad => (nrw_r _ (Or.inr ⟨_, rfl⟩) (some M43.n) ad).2) ⟨⟨rfl, rfl⟩, rfl⟩ (fun _ _ => rfl) (fun _ _ => rfl) (fun _ hb => up2_same hb) (put_r (fun _ _ _ => rfl)) (fun h => Tt_sr h trivial) dX3_init_184 ?_
  refine J_ltM (fun M45 => ?_)
  refine J_aload_n (pc := 187) dX3_init_187 rfl ?_
  refine J_sipush (pc := 188) 1536 dX3_init_188 (by decide) ?_
  refine J_newa (pc := 191) (atype := .int) (c := 20) (N := 1536) (by decide) (by decide) rfl q175 (by decide) (by decide) (Nat.le_of_ble_eq_true rfl) (fun _ _ => nw_d20) (fun h => Tt_nw h) dX3_init_191 ?_
  refine J_ltM (fun M46 => ?_)
  refine J_ckk (fun h24 => ?_)
  refine J_put (pc := 193) (a := 72) (v := va_rf (some M45.n)) (M' := M46.sr 72 39 (some M45.n)) (c := 2) rfl in_X3 tyX3_ok fnX3 39 (by decide) q1146 rfl (Or.inr ⟨rfl, rfl, rfl⟩) (fun _ => h24) (fun ad => (nrw_r _ (Or.inr ⟨_, rfl⟩) (some M45.n) ad).1) (fun ad => (nrw_r _ (Or.inr ⟨_, rfl⟩) (some M45.n) ad).2) ⟨⟨rfl, rfl⟩, rfl⟩ (fun _ _ => rfl) (fun _ _ => rfl) (fun _ hb => up2_same hb) (put_r (fun _ _ _ => rfl)) (fun h => Tt_sr h trivial) dX3_init_193 ?_
  refine J_ltM (fun M47 => ?_)
  refine J_aload_n (pc := 196) dX3_init_196 rfl ?_
  refine J_bipush (pc := 197) 10 dX3_init_197 (by decide) ?_
  refine J_newa (pc := 199) (atype := .int) (c := 20) (N := 10) (by decide) (by decide) rfl q175 (by decide) (by decide) (Nat.le_of_ble_eq_true rfl) (fun _ _ => nw_d20) (fun h => Tt_nw h) dX3_init_199 ?_
  refine J_ltM (fun M48 => ?_)
  refine J_ckk (fun h25 => ?_)
  refine J_put (pc := 201) (a := 72) (v := va_rf (some M47.n)) (M' := M48.sr 72 44 (some M47.n)) (c := 2) rfl in_X3 tyX3_ok fnX3 44 (by decide) q1151 rfl (Or.inr ⟨rfl, rfl, rfl⟩) (fun _ => h25) (fun ad => (nrw_r _ (Or.inr ⟨_, rfl⟩) (some M47.n) ad).1) (fun ad => (nrw_r _ (Or.inr ⟨_, rfl⟩) (some M47.n) ad).2) ⟨⟨rfl, rfl⟩, rfl⟩ (fun _ _ => rfl) (fun _ _ => rfl) (fun _ hb => up2_same hb) (put_r (fun _ _ _ => rfl)) (fun h => Tt_sr h trivial) dX3_init_201 ?_
  refine J_ltM (fun M49 => ?_)
  refine J_aload_n (pc := 204) dX3_init_204 rfl ?_
  refine J_iconst (pc := 205) 5 dX3_init_205 (by decide) ?_
  refine J_newa (pc := 206) (atype := .int) (c := 20) (N := 5) (by decide) (by decide) rfl q175 (by decide) (by decide) (Nat.le_of_ble_eq_true rfl) (fun _ _ => nw_d20) (fun h => Tt_nw h) dX3_init_206 ?_
  refine J_ltM (fun M50 => ?_)
  refine J_ckk (fun h26 => ?_)
  refine J_put (pc := 208) (a := 72) (v := va_rf (some M49.n)) (M' := M50.sr 72 45 (some M49.n)) (c := 2) rfl in_X3 tyX3_ok fnX3 45 (by decide) q1152 rfl (Or.inr ⟨rfl, rfl, rfl⟩) (fun _ => h26) (fun ad => (nrw_r _ (Or.inr ⟨_, rfl⟩) (some M49.n) ad).1) (fun ad => (nrw_r _ (Or.inr ⟨_, rfl⟩) (some M49.n) ad).2) ⟨⟨rfl, rfl⟩, rfl⟩ (fun _ _ => rfl) (fun _ _ => rfl) (fun _ hb => up2_same hb) (put_r (fun _ _ _ => rfl)) (fun h => Tt_sr h trivial) dX3_init_208 ?_
  refine J_ltM (fun M51 => ?_)
  refine J_aload_n (pc := 211) dX3_init_211 rfl ?_
  refine J_iconst (pc := 212) 4 dX3_init_212 (by decide) ?_
  refine J_newa (pc := 213) (atype := .int) (c := 20) (N := 4) (by decide) (by decide) rfl q175 (by decide) (by decide) (Nat.le_of_ble_eq_true rfl) (fun _ _ => nw_d20) (fun h => Tt_nw h) dX3_init_213 ?_
  refine J_ltM (fun M52 => ?_)
  refine J_ckk (fun h27 => ?_)
  refine J_put (pc := 215) (a := 72) (v := va_rf (some M51.n)) (M' := M52.sr 72 46 (some M51.n)) (c := 2) rfl in_X3 tyX3_ok fnX3 46 (by decide) q1153 rfl (Or.inr ⟨rfl, rfl, rfl⟩) (fun _ => h27) (fun ad => (nrw_r _ (Or.inr ⟨_, rfl⟩) (some M51.n) ad).1) (fun ad => (nrw_r _ (Or.inr ⟨_, rfl⟩) (some M51.n) ad).2) ⟨⟨rfl, rfl⟩, rfl⟩ (fun _ _ => rfl) (fun _ _ => rfl) (fun _ hb => up2_same hb) (put_r (fun _ _ _ => rfl)) (fun h => Tt_sr h trivial) dX3_init_215 ?_
  refine J_ltM (fun M53 => ?_)
  refine J_aload_n (pc := 218) dX3_init_218 rfl ?_
  refine J_iconst (pc := 219) 4 dX3_init_219 (by decide) ?_
  refine J_newa (pc := 220) (atype := .int) (c := 20) (N := 4) (by decide) (by decide) rfl q175 (by decide) (by decide) (Nat.le_of_ble_eq_true rfl) (fun _ _ => nw_d20) (fun h => Tt_nw h) dX3_init_220 ?_
  refine J_ltM (fun M54 => ?_)
  refine J_ckk (fun h28 => ?_)
  refine J_put (pc := 222) (a := 72) (v := va_rf (some M53.n)) (M' := M54.sr 72 47 (some M53.n)) (c := 2) rfl in_X3 tyX3_ok fnX3 47 (by decide) q1154 rfl (Or.inr ⟨rfl, rfl, rfl⟩) (fun _ => h28) (fun ad => (nrw_r _ (Or.inr ⟨_, rfl⟩) (some M53.n) ad).1) (fun ad => (nrw_r _ (Or.inr ⟨_, rfl⟩) (some M53.n) ad).2) ⟨⟨rfl, rfl⟩, rfl⟩ (fun _ _ => rfl) (fun _ _ => rfl) (fun _ hb => up2_same hb) (put_r (fun _ _ _ => rfl)) (fun h => Tt_sr h trivial) dX3_init_222 ?_
  refine J_ltM (fun M55 => ?_)
  refine J_aload_n (pc := 225) dX3_init_225 rfl ?_
  refine J_bipush (pc := 226) 44 dX3_init_226 (by decide) ?_
  refine J_newa (pc := 228) (atype := .int) (c := 20) (N := 44) (by decide) (by decide) rfl q175 (by decide) (by decide) (Nat.le_of_ble_eq_true rfl) (fun _ _ => nw_d20) (fun h => Tt_nw h) dX3_init_228 ?_
  refine J_ltM (fun M56 => ?_)
  refine J_ckk (fun h29 => ?_)
  refine J_put (pc := 230) (a := 72) (v := va_rf (some M55.n)) (M' := M56.sr 72 51 (some M55.n)) (c := 2) rfl in_X3 tyX3_ok fnX3 51 (by decide) q1158 rfl (Or.inr ⟨rfl, rfl, rfl⟩) (fun _ => h29) (fun ad => (nrw_r _ (Or.inr ⟨_, rfl⟩) (some M55.n) ad).1) (fun ad => (nrw_r _ (Or.inr ⟨_, rfl⟩) (some M55.n) ad).2) ⟨⟨rfl, rfl⟩, rfl⟩ (fun _ _ => rfl) (fun _ _ => rfl) (fun _ hb => up2_same hb) (put_r (fun _ _ _ => rfl)) (fun h => Tt_sr h trivial) dX3_init_230 ?_
  refine J_ltM (fun M57 => ?_)
  refine J_aload_n (pc := 233) dX3_init_233 rfl ?_
  refine J_bipush (pc := 234) 88 dX3_init_234 (by decide) ?_
  refine J_newa (pc := 236) (atype := .int) (c := 20) (N := 88) (by decide) (by decide) rfl q175 (by decide) (by decide) (Nat.le_of_ble_eq_true rfl) (fun _ _ => nw_d20) (fun h => Tt_nw h) dX3_init_236 ?_
  refine J_ltM (fun M58 => ?_)
  refine J_ckk (fun h30 => ?_)
  refine J_put (pc := 238) (a := 72) (v := va_rf (some M57.n)) (M' := M58.sr 72 53 (some M57.n)) (c := 2) rfl in_X3 tyX3_ok fnX3 53 (by decide) q1160 rfl (Or.inr ⟨rfl, rfl, rfl⟩) (fun _ => h30) (fun ad => (nrw_r _ (Or.inr ⟨_, rfl⟩) (some M57.n) ad).1) (fun ad => (nrw_r _ (Or.inr ⟨_, rfl⟩) (some M57.n) ad).2) ⟨⟨rfl, rfl⟩, rfl⟩ (fun _ _ => rfl) (fun _ _ => rfl) (fun _ hb => up2_same hb) (put_r (fun _ _ _ => rfl)) (fun h => Tt_sr h trivial) dX3_init_238 ?_
  refine J_ltM (fun M59 => ?_)
  refine J_aload_n (pc := 241) dX3_init_241 rfl ?_
  refine J_iconst (pc := 242) 2 dX3_init_242 (by decide) ?_
  refine J_newa (pc := 243) (atype := .boolean) (c := 22) (N := 2) (by decide) (by decide) rfl q1276 (by decide) (by decide) (Nat.le_of_ble_eq_true rfl) (fun _ _ => nw_d22) (fun h => Tt_nw h) dX3_init_243 ?_
  refine J_ltM (fun M60 => ?_)
  refine J_ckk (fun h31 => ?_)
  refine J_put (pc := 245) (a := 72) (v := va_rf (some M59.n)) (M' := M60.sr 72 54 (some M59.n)) (c := 2) rfl in_X3 tyX3_ok fnX3 54 (by decide) q1161 rfl (Or.inr ⟨rfl, rfl, rfl⟩) (fun _ => h31) (fun ad => (nrw_r _ (Or.inr ⟨_, rfl⟩) (some M59.n) ad).1) (fun ad => (nrw_r _ (Or.inr ⟨_, rfl⟩) (some M59.n) ad).2) ⟨⟨rfl, rfl⟩, rfl⟩ (fun _ _ => rfl) (fun _ _ => rfl) (fun _ hb => up2_same hb) (put_r (fun _ _ _ => rfl)) (fun h => Tt_sr h trivial) dX3_init_245 ?_
  refine J_ltM (fun M61 => ?_)
  refine J_aload_n (pc := 248) dX3_init_248 rfl ?_
  refine J_iconst (pc := 249) 2 dX3_init_249 (by decide) ?_
  refine J_newa (pc := 250) (atype := .int) (c := 20) (N := 2) (by decide) (by decide) rfl q175 (by decide) (by decide) (Nat.le_of_ble_eq_true rfl) (fun _ _ => nw_d20) (fun h => Tt_nw h) dX3_init_250 ?_
  refine J_ltM (fun M62 => ?_)
  refine J_ckk (fun h32 => ?_)
  refine J_put (pc := 252) (a := 72) (v := va_rf (some M61.n)) (M' := M62.sr 72 55 (some M61.n)) (c := 2) rfl in_X3 tyX3_ok fnX3 55 (by decide) q1162 rfl (Or.inr ⟨rfl, rfl, rfl⟩) (fun _ => h32) (fun ad => (nrw_r _ (Or.inr ⟨_, rfl⟩) (some M61.n) ad).1) (fun ad => (nrw_r _ (Or.inr ⟨_, rfl⟩) (some M61.n) ad).2) ⟨⟨rfl, rfl⟩, rfl⟩ (fun _ _ => rfl) (fun _ _ => rfl) (fun _ hb => up2_same hb) (put_r (fun _ _ _ => rfl)) (fun h => Tt_sr h trivial) dX3_init_252 ?_
  refine J_ltM (fun M63 => ?_)
  exact J_ret (pc := 255) dX3_init_255

theorem C_m_init_i (l : Launch) (M : PM) : Ctr l Tt yX3_init cX3_init 1 none 1 rvU [.ref 72] M (m_init_i M) := Ctr.of (by decide +kernel) (Nat.le_of_ble_eq_true rfl) (fun G => t_m_init_i G M)

