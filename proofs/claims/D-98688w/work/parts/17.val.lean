/-! NODES OF A RULE: the call of the abstract value(), and Node's constructor -/
theorem lw_U {own : String} {idx : Nat} {C owner : String} {x y : MethodName} {b : ByteArray} {L : Nat} {r : Option FieldType} (h1 : Cond.methodLink own idx x ∈ lw_all) (h2 : Cond.sameMethod x.cls owner x.name x.desc ∈ lw_all) (h3 : Cond.selects C x y ∈ lw_all) (h4 : Cond.instanceMethod y ∈ lw_all) (h5 : Cond.initialized y.cls ∈ lw_all) (h6 : Cond.code y b L r ∈ lw_all) : GoodIn lw_all (va_wsU own idx C owner x y (ws_ y b L r)) := by
  refine lw_app ?_ (lw_meth h6)
  intro w hw
  simp only [List.mem_cons, List.not_mem_nil, or_false] at hw
  rcases hw with e | e | e | e | e
  · rw [e]; exact h1
  · rw [e]; exact h2
  · rw [e]; exact h3
  · rw [e]; exact h4
  · rw [e]; exact h5
def yNv : MethodName := ⟨"TollOnVowels$Node", "value", "()I"⟩
section JV
variable {α : Type} {G : JG} {cc : ByteArray} {y : MethodName} {nL D : Nat} {ret : Option FieldType} {fin : α → PM → State → Prop} {M : PM} {pc : Nat} {L : List (Option Value)} {S : List Value}
variable {index D' : Nat} {f : Int32 → PM → Option (α × PM)}
theorem J_callA {C : String} {ci nL' : Nat} {T : u_T} {N : Nat} {y' : MethodName} {cc' : ByteArray} {a : Nat} {oc : Option (Int32 × PM)} (hC : ∀ l, Ctr l Sh y' cc' nL' (some .int) D' rvI [.ref a] M oc) (hw : GoodIn lw_all (va_wsU y.cls index C "TollOnVowels$Node" yNv y' (ws_ y' cc' nL' (some .int)))) (hD : D' + 1 ≤ D) (hL : nL' ≤ 20) (hc : vwCl[ci]? = some (C, T, N)) (ha : (M.k a).1 = ci) (hS8 : (S.map fun v => v.category).sum ≤ 8) (d : decode cc pc = .ok (.invokevirtual index, 3)) (k : ∀ r1 M1, JJ G cc y nL D ret Sh fin M1 (pc + 3) L (.int r1 :: S) (f r1 M1)) : JJ G cc y nL D ret Sh fin M pc L (.ref a :: S) (bd oc f) := by
  refine J_callX hC (fun p l e R s m args below meth c E M0 cx hi H locs ls k0 n0 r1 M1 l1 l2 l3 l4 hl hS hR hM hbl hpre => ?_) k
  have hob := ob_of hR ha hc
  have hK := cx.2.2.2.2.2.2.1.1
  refine va_runU (As := []) (b := E.ad a) (C := C) (owner := "TollOnVowels$Node") (x := yNv) ⟨cx.1, cx.2.1, cx.2.2.1, cx.2.2.2.1, cx.2.2.2.2.1⟩ hM (va_cwA 0 cx.2.2.2.2.1 hw rfl rfl rfl cx.2.2.2.2.2.2.1.2.2.2.1 (by decide +kernel) (call_room (s := 0) hD hL cx.2.2.2.2.2.2.2.2.2.1 cx.2.2.2.2.2.2.2.2.2.2.1)) ⟨hbl, ?_, hpre⟩ rfl rfl hl.1 rfl (lv_room (by rw [tr_cats]; exact hS8)) d ⟨l3, l4⟩
  obtain ⟨cell, g1, g2, g3, -⟩ := hob
  exact ⟨cell, g1, by rw [g3]; rfl, by rw [g2]; exact (hK.1 ci _ hc).2.1⟩
def VC (v : Nat → PM → Option (Int32 × PM)) (D' : Nat) : Prop := ∀ (a : Nat) (M : PM),
((M.k a).1 = 3 → ∀ l, Ctr l Sh yX5_value cX5_value 1 (some .int) D' rvI [.ref a] M (v a M)) ∧ ((M.k a).1 = 4 → ∀ l, Ctr l Sh yX6_value cX6_value 1 (some .int) D' rvI [.ref a] M (v a M)) ∧ ((M.k a).1 = 5 → ∀ l, Ctr l Sh yX7_value cX7_value 1 (some .int) D' rvI [.ref a] M (v a M)) ∧ ((M.k a).1 = 6 → ∀ l, Ctr l Sh yX8_value cX8_value 3 (some .int) D' rvI [.ref a] M (v a M)) ∧ (¬ (3 ≤ (M.k a).1 ∧ (M.k a).1 ≤ 6) → v a M = none)
theorem J_value {v : Nat → PM → Option (Int32 × PM)} {a : Nat} (hV : VC v D') (hl : Cond.methodLink y.cls index yNv ∈ lw_all) (hD : D' + 1 ≤ D) (hS8 : (S.map fun v => v.category).sum ≤ 8) (d : decode cc pc = .ok (.invokevirtual index, 3)) (k : ∀ r1 M1, JJ G cc y nL D ret Sh fin M1 (pc + 3) L (.int r1 :: S) (f r1 M1)) : JJ G cc y nL D ret Sh fin M pc L (.ref a :: S) (bd (v a M) f) := by
  obtain ⟨h3, h4, h5, h6, h7⟩ := hV a M
  by_cases h : 3 ≤ (M.k a).1 ∧ (M.k a).1 ≤ 6
  · rcases (show (M.k a).1 = 3 ∨ (M.k a).1 = 4 ∨ (M.k a).1 = 5 ∨ (M.k a).1 = 6 by omega) with e | e | e | e
    · exact J_callA (C := "TollOnVowels$Less") (ci := 3) (h3 e) (lw_U hl q693 q705 q698 q127 q699) hD (by decide) rfl e hS8 d k
    · exact J_callA (C := "TollOnVowels$Number") (ci := 4) (h4 e) (lw_U hl q693 q706 q701 q128 q702) hD (by decide) rfl e hS8 d k
    · exact J_callA (C := "TollOnVowels$Sign") (ci := 5) (h5 e) (lw_U hl q693 q707 q703 q129 q704) hD (by decide) rfl e hS8 d k
    · exact J_callA (C := "TollOnVowels$Act") (ci := 6) (h6 e) (lw_U hl q693 q694 q695 q130 q696) hD (by decide) rfl e hS8 d k
  · rw [h7 h]
    exact J_none
end JV
def nd_init (p0 : Nat) (M : PM) : Option (Unit × PM) := ckb (3 ≤ (M.k p0).1 ∧ (M.k p0).1 ≤ 6) <| ckb (105 ≤ p0) <| some ((), M.sr p0 0 (some 20))
theorem C_nd_init (l : Launch) (p0 : Nat) (M : PM) : Ctr l Sh yX4_init cX4_init 2 none 1 rvU [.ref p0, .ref 20] M (nd_init p0 M) := Ctr.of (by decide +kernel) (Nat.le_of_ble_eq_true rfl) (fun G => by
  unfold nd_init
  refine J_aload_n (pc := 0) dX4_init_0 rfl ?_
  refine J_aload_n (pc := 1) dX4_init_1 rfl ?_
  refine J_ckb (fun h => ?_)
  refine J_ckb (fun h1 => ?_)
  have hk : ∀ M' : PM, JJ G cX4_init yX4_init 2 1 none Sh (finR G Sh rvU) M' 5 (ent [.ref p0, .ref 20] 2) [] (some ((), M')) := fun M' => by
    refine J_aload_n (pc := 5) dX4_init_5 rfl ?_
    refine J_obj (pc := 6) (by omega) q590 q142 q143 (Nat.le_of_ble_eq_true rfl) dX4_init_6 ?_
    exact J_ret (pc := 9) dX4_init_9
  rcases (show (M.k p0).1 = 3 ∨ (M.k p0).1 = 4 ∨ (M.k p0).1 = 5 ∨ (M.k p0).1 = 6 by omega) with e | e | e | e
  · refine J_put (pc := 2) (a := p0) (v := va_rf (some 20)) (M' := M.sr p0 0 (some 20)) (c := 3) rfl in_X5 tyX5_ok fnX5 0 (by decide) q593 rfl (Or.inr ⟨rfl, rfl, rfl⟩) (fun _ => e) (fun ad => (nrw_r _ (Or.inl ⟨_, rfl⟩) (some 20) ad).1) (fun ad => (nrw_r _ (Or.inl ⟨_, rfl⟩) (some 20) ad).2) ⟨⟨rfl, rfl⟩, rfl⟩ (fun _ _ => rfl) (fun _ _ => rfl) (fun _ hb => up2_same hb) (put_r (fun _ _ _ => rfl)) (fun h => Sh_srN h h1) dX4_init_2 (hk _)
  · refine J_put (pc := 2) (a := p0) (v := va_rf (some 20)) (M' := M.sr p0 0 (some 20)) (c := 4) rfl in_X6 tyX6_ok fnX6 0 (by decide) q593 rfl (Or.inr ⟨rfl, rfl, rfl⟩) (fun _ => e) (fun ad => (nrw_r _ (Or.inl ⟨_, rfl⟩) (some 20) ad).1) (fun ad => (nrw_r _ (Or.inl ⟨_, rfl⟩) (some 20) ad).2) ⟨⟨rfl, rfl⟩, rfl⟩ (fun _ _ => rfl) (fun _ _ => rfl) (fun _ hb => up2_same hb) (put_r (fun _ _ _ => rfl)) (fun h => Sh_srN h h1) dX4_init_2 (hk _)
  · refine J_put (pc := 2) (a := p0) (v := va_rf (some 20)) (M' := M.sr p0 0 (some 20)) (c := 5) rfl in_X7 tyX7_ok fnX7 0 (by decide) q593 rfl (Or.inr ⟨rfl, rfl, rfl⟩) (fun _ => e) (fun ad => (nrw_r _ (Or.inl ⟨_, rfl⟩) (some 20) ad).1) (fun ad => (nrw_r _ (Or.inl ⟨_, rfl⟩) (some 20) ad).2) ⟨⟨rfl, rfl⟩, rfl⟩ (fun _ _ => rfl) (fun _ _ => rfl) (fun _ hb => up2_same hb) (put_r (fun _ _ _ => rfl)) (fun h => Sh_srN h h1) dX4_init_2 (hk _)
  · refine J_put (pc := 2) (a := p0) (v := va_rf (some 20)) (M' := M.sr p0 0 (some 20)) (c := 6) rfl in_X8 tyX8_ok fnX8 0 (by decide) q593 rfl (Or.inr ⟨rfl, rfl, rfl⟩) (fun _ => e) (fun ad => (nrw_r _ (Or.inl ⟨_, rfl⟩) (some 20) ad).1) (fun ad => (nrw_r _ (Or.inl ⟨_, rfl⟩) (some 20) ad).2) ⟨⟨rfl, rfl⟩, rfl⟩ (fun _ _ => rfl) (fun _ _ => rfl) (fun _ hb => up2_same hb) (put_r (fun _ _ _ => rfl)) (fun h => Sh_srN h h1) dX4_init_2 (hk _))
