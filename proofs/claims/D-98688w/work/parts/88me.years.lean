set_option maxRecDepth 100000
section
variable {C : SV} {A : Nat → Int32} {M M1 : PM} {l : List Int64}
theorem yq_years {n : Nat} (hT : 0 < C.nt) (hW : 0 < C.nw) (h1 : 1 ≤ n) (hn : n ≤ 60) (r : Int32) {Y : Nat → YT} (hY0 : Y 0 = (A, r, 0, 0)) (hY : ∀ k, Y (k + 1) = yrS C (Y k)) (hYo : ∀ k, OKA C (Y k).1) {d e : Nat} (hd : A 13 = zn d) (he2 : (Y n).1 13 = zn (d ||| e)) : QY C A l [(Y n).2.2.1.toInt64, (Y n).2.2.2.toInt64] (bcn (zn (d ||| e)) - bcn (zn d)) (m_years r (zn n)) := by
  intro M h ha hok hl
  have b1 := h.ok.nt4
  have b2 := h.ok.nw10
  have h' := h.fy (f13 (M := M))
  have ha' := ha.fy (f13 (M := M))
  obtain ⟨M1, hM1⟩ : ∃ M1, M1 = (M.si 72 13 0).si 72 50 r := ⟨_, rfl⟩
  have f1 : Fq (fun o j => o = 72 ∧ j = 50) (M.si 72 13 0) M1 := by rw [hM1]; exact Fq.si (c := fun o j => o = 72 ∧ j = 50) Fq.rf ⟨rfl, rfl⟩
  have ft1 : Fq ts (M.si 72 13 0) M1 := f1.mo (fun o j q => by rw [q.1, q.2]; unfold ts; omega)
  have h1' := h'.fy ft1.ty
  have a1 := ha'.fy ft1.ty
  obtain ⟨M2, e2, f2, v2⟩ := ms_lay (M := M1) (a := 73) (b := 100) (na := 44) (nb := 44) (d := 0) (kd73 h1'.sh) (kd100 h1'.sh) (by omega) (by omega) (by omega) (by omega)
  have e2' : m_lay 73 100 0 M1 = _ := e2
  have ft2 : Fq ts (M.si 72 13 0) M2 := ft1.tr (f2.mo (fun o j q => by rw [q.1]; unfold ts; omega))
  have r2 : M2.i 72 50 = r := by rw [f2.i _ _ (by omega), hM1, si_i, if_pos ⟨rfl, rfl⟩]
  have v2' : RvY 100 A M2 := fun j hj => by
    have := v2 j hj
    rw [Nat.zero_add] at this
    rw [this]; exact a1 j hj
  obtain ⟨Kd, hKd⟩ : ∃ Kd : Int32 → Int32 → PM → Option (Int32 × PM), Kd = (fun (v21 : Int32) (v22 : Int32) (M15 : PM) => lt (M15.si 72 12 0) fun M16 => bd (m_tell (Int32.toInt64 v21) M16) fun _ M17 => bd (m_tell (Int32.toInt64 v22) M17) fun _ M18 => ck 13 44 <| bd (jl_bitCount (M18.i 100 (ix 13)) M18) fun v23 M19 => ck 13 44 <| bd (jl_bitCount (M19.i 73 (ix 13)) M19) fun v24 M20 => some ((v23 - v24), M20)) := ⟨_, rfl⟩
  have loop := wlp (fun nn k (_ : Unit) M3 => m_years_L59 (zn n) Kd nn (Y k).2.2.1 (Y k).2.2.2 (zn k) M3) n FU (FU_lt (by omega)) (fun _ s => s) () (fun k M3 => Fq ts (M.si 72 13 0) M3 ∧ RvY 100 (Y k).1 M3 ∧ M3.i 72 50 = (Y k).2.1) (fun o => ∃ M3, o = Kd (Y n).2.2.1 (Y n).2.2.2 M3 ∧ Fq ts (M.si 72 13 0) M3 ∧ RvY 100 (Y n).1 M3) (fun nn k M3 hk hI => ?_) (fun nn M3 hI => ?_) M2 ⟨ft2, by rw [hY0]; exact v2', by rw [hY0]; exact r2⟩
  · obtain ⟨M3, e3, f3, v3⟩ := loop
    obtain ⟨M4, e4, f4, l4⟩ := ms_tell0 M3 ((Y n).2.2.1.toInt64)
    obtain ⟨M5, e5, f5, l5⟩ := ms_tell1 l4 ((Y n).2.2.2.toInt64)
    have g5 : Fq rwy M3 M5 := f4.tr f5
    refine ⟨M5, ?_, ((f13.tr f3.ty).tr f4.wy).tr f5.wy, l5⟩
    rw [hY0] at e3
    have e3' : m_years_L59 (zn n) Kd FU 0 0 0 M2 = _ := e3
    have z1 : M5.i 100 13 = zn (d ||| e) := by rw [g5.i _ _ (by unfold rwy; omega), v3 13 (by omega)]; exact he2
    have z2 : M5.i 73 13 = zn d := by
      rw [g5.i _ _ (by unfold rwy; omega), hy13 (ha'.fy f3.ty), hd]
    unfold m_years
    rw [lt_u, h'.nt, if_neg (by rw [zn_eq_l (by omega) (by omega)]; omega), h'.nw, if_neg (by rw [zn_eq_l (by omega) (by omega)]; omega), bde (show m_in (zn n) 1 60 (M.si 72 13 0) = some (1, M.si 72 13 0) from by rw [m_in32, if_pos ⟨by rw [l_le_zn (by omega) (by omega)]; exact h1, by rw [zn_le_l (by omega) (by omega)]; exact hn⟩]), if_neg (by decide), lt_u, ← hM1, bde e2', ← hKd, e3', hKd]; simp only [lt_u]; rw [bde e4, bde e5, ck13, ix13, bde (bc_M _ _), ck13, bde (bc_M _ _), z1, z2]
  · obtain ⟨f, v, rr⟩ := hI
    obtain ⟨M4, e4, f4, v4, r4⟩ := ms_yrStep (nn := nn) (h'.fy f.ty) hT hW (hYo k) v rr hk hn Kd
    refine ⟨M4, ⟨f.tr f4, by rw [hY]; exact v4, by rw [hY]; exact r4⟩, ?_⟩
    show m_years_L59 (zn n) Kd (nn + 1) (Y k).2.2.1 (Y k).2.2.2 (zn k) M3 = m_years_L59 (zn n) Kd nn (Y (k + 1)).2.2.1 (Y (k + 1)).2.2.2 (zn (k + 1)) M4
    rw [hY]
    exact e4
  · obtain ⟨f, v, rr⟩ := hI
    refine ⟨M3, ?_, f, v⟩
    show m_years_L59 (zn n) Kd (nn + 1) _ _ (zn n) M3 = _
    rw [m_years_L59, if_pos (Int32.le_refl _)]
end
