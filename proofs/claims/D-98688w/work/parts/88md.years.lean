set_option maxRecDepth 100000
section
variable {C : SV} {A : Nat → Int32} {M M1 : PM} {l : List Int64}
theorem xq_years {n : Nat} (hT : 0 < C.nt) (hW : 0 < C.nw) (h1 : 1 ≤ n) (hn : n ≤ 60) (r : Int32) {Y : Nat → YT} (hY0 : Y 0 = (A, r, 0, 0)) (hY : ∀ k, Y (k + 1) = yrS C (Y k)) (hYo : ∀ k, OKA C (Y k).1) {d e : Nat} (hd8 : d < 256) (he : e < 256) (hd : A 13 = zn d) (he2 : (Y n).1 13 = zn (d ||| e)) : QX C A l [(Y n).2.2.1.toInt64, (Y n).2.2.2.toInt64] (bcn (zn (d ||| e)) - bcn (zn d)) (x_years r (zn n)) := by
  intro M h ha hok hl
  have b1 := h.ok.nt4
  have b2 := h.ok.nw10
  obtain ⟨M1, hM1⟩ : ∃ M1, M1 = M.si 20 63 r := ⟨_, rfl⟩
  have f1 : Fq (fun o j => o = 20 ∧ j = 63) M M1 := by rw [hM1]; exact Fq.si (c := fun o j => o = 20 ∧ j = 63) Fq.rf ⟨rfl, rfl⟩
  have ft1 : Fq ts M M1 := f1.mo (fun o j q => Or.inl ⟨q.1, by omega⟩)
  have h1' := h.fx ft1.tx
  have a1 := ha.fx ft1.tx
  obtain ⟨M2, e2, f2, v2⟩ := xs_becomes (a := 26) (b := 21) (RdS.of26 h1'.sh) (RdS.of21 h1'.sh) (by omega) a1
  have ft2 : Fq ts M M2 := ft1.tr (f2.mo rd26_ts)
  have r2 : M2.i 20 63 = r := by rw [f2.i _ _ (by unfold rdc; omega), hM1, si_i, if_pos ⟨rfl, rfl⟩]
  obtain ⟨Kd, hKd⟩ : ∃ Kd : Int32 → Int32 → PM → Option (Int32 × PM), Kd = (fun (v17 : Int32) (v18 : Int32) (M13 : PM) => lt (M13.si 20 67 0) fun M14 => bd (x_tells (Int32.toInt64 v17) M14) fun _ M15 => bd (x_tells (Int32.toInt64 v18) M15) fun _ M16 => bd (jl_bitCount ((M16.i 26 5) &&& ((M16.i 21 5) ^^^ (-1))) M16) fun v19 M17 => some (v19, M17)) := ⟨_, rfl⟩
  have loop := wlp (fun nn k (_ : Unit) M3 => x_years_L55 (zn n) Kd nn (Y k).2.2.1 (Y k).2.2.2 (zn k) M3) n FU (FU_lt (by omega)) (fun _ s => s) () (fun k M3 => Fq ts M M3 ∧ RvX 26 (Y k).1 M3 ∧ M3.i 20 63 = (Y k).2.1) (fun o => ∃ M3, o = Kd (Y n).2.2.1 (Y n).2.2.2 M3 ∧ Fq ts M M3 ∧ RvX 26 (Y n).1 M3) (fun nn k M3 hk hI => ?_) (fun nn M3 hI => ?_) M2 ⟨ft2, by rw [hY0]; exact v2, by rw [hY0]; exact r2⟩
  · obtain ⟨M3, e3, f3, v3⟩ := loop
    obtain ⟨M4, e4, f4, l4⟩ := xs_tell0 M3 ((Y n).2.2.1.toInt64)
    obtain ⟨M5, e5, f5, l5⟩ := xs_tell1 l4 ((Y n).2.2.2.toInt64)
    have g5 : Fq rwx M3 M5 := f4.tr f5
    refine ⟨M5, ?_, (f3.tx.tr f4.wx).tr f5.wx, l5⟩
    rw [hY0] at e3
    have e3' : x_years_L55 (zn n) Kd FU 0 0 0 M2 = _ := e3
    have z1 : M5.i 26 5 = zn (d ||| e) := by rw [g5.i _ _ (by unfold rwx; omega), v3.2.2.1]; exact he2
    have z2 : M5.i 21 5 = zn d := by
      rw [g5.i _ _ (by unfold rwx; omega), hx13 (ha.fx f3.tx), hd]
    unfold x_years
    rw [h.nt, if_neg (by rw [zn_eq_l (by omega) (by omega)]; omega), h.nw, if_neg (by rw [zn_eq_l (by omega) (by omega)]; omega), bde (show x_in (zn n).toInt64 1 60 M = some (1, M) from by rw [x_in_160, if_pos ⟨by rw [l_le_zn (by omega) (by omega)]; exact h1, by rw [zn_le_l (by omega) (by omega)]; exact hn⟩]), if_neg (by decide), lt_u, ← hM1, bde e2, ← hKd, e3', hKd]; simp only [lt_u]; rw [bde e4, bde e5, bde (bc_M _ _), z1, z2, bc_more hd8 he]
  · obtain ⟨f, v, rr⟩ := hI
    obtain ⟨M4, e4, f4, v4, r4⟩ := xs_yrStep (nn := nn) (h.fx f.tx) hT hW (hYo k) v rr hk hn Kd
    refine ⟨M4, ⟨f.tr f4, by rw [hY]; exact v4, by rw [hY]; exact r4⟩, ?_⟩
    show x_years_L55 (zn n) Kd (nn + 1) (Y k).2.2.1 (Y k).2.2.2 (zn k) M3 = x_years_L55 (zn n) Kd nn (Y (k + 1)).2.2.1 (Y (k + 1)).2.2.2 (zn (k + 1)) M4
    rw [hY]
    exact e4
  · obtain ⟨f, v, rr⟩ := hI
    refine ⟨M3, ?_, f, v⟩
    show x_years_L55 (zn n) Kd (nn + 1) _ _ (zn n) M3 = _
    rw [x_years_L55, if_pos (Int32.le_refl _)]
end
