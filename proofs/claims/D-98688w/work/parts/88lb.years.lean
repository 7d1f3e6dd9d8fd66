set_option maxRecDepth 100000
section
variable {C : SV} {A B : Nat → Int32} {M M1 : PM} {l : List Int64}
theorem xs_yrStep (h : CX C M) (hT : 0 < C.nt) (hW : 0 < C.nw) {s : YT} (hA : OKA C s.1) (hv : RvX 26 s.1 M) (hr : M.i 20 63 = s.2.1) {n k nn : Nat} (hk : k < n) (hn : n ≤ 60) (Kc : Int32 → Int32 → PM → Option (Int32 × PM)) :
    ∃ M', x_years_L55 (zn n) Kc (nn + 1) s.2.2.1 s.2.2.2 (zn k) M = x_years_L55 (zn n) Kc nn (yrS C s).2.2.1 (yrS C s).2.2.2 (zn (k + 1)) M' ∧ Fq ts M M' ∧ RvX 26 (yrS C s).1 M' ∧ M'.i 20 63 = (yrS C s).2.1 := by
  have b1 := h.ok.nt4
  have b2 := h.ok.nw10
  have b3 := h.ok.ns6
  obtain ⟨t, ht0⟩ : ∃ t, t = u16 (drw s.2.1) % C.nt := ⟨_, rfl⟩
  obtain ⟨what, hw0⟩ : ∃ what, what = u16 (drw (drw s.2.1)) % 4 := ⟨_, rfl⟩
  obtain ⟨w, hww⟩ : ∃ w, w = u16 (drw (drw (drw s.2.1))) % C.nw := ⟨_, rfl⟩
  have ht : t < C.nt := by rw [ht0]; exact Nat.mod_lt _ hT
  have hw4 : what < 4 := by rw [hw0]; exact Nat.mod_lt _ (by omega)
  have hw : w < C.nw := by rw [hww]; exact Nat.mod_lt _ hW
  have eS : yrS C s = yrQ C s t what w (drw (drw s.2.1)) (drw (drw (drw s.2.1))) := by rw [ht0, hw0, hww]; rfl
  obtain ⟨ea, es⟩ := at_zn h.ok hA ht
  have e1 := xs_draws hr hT (show C.nt < 1000 by omega)
  obtain ⟨M1, hM1⟩ : ∃ M1, M1 = M.si 20 63 (drw s.2.1) := ⟨_, rfl⟩
  have f1 : Fq (fun o j => o = 20 ∧ j = 63) M M1 := by rw [hM1]; exact Fq.si (c := fun o j => o = 20 ∧ j = 63) Fq.rf ⟨rfl, rfl⟩
  rw [← ht0, ← hM1] at e1
  have r1 : M1.i 20 63 = drw s.2.1 := by rw [hM1, si_i, if_pos ⟨rfl, rfl⟩]
  have e2 : x_draws 4 M1 = _ := xs_draws (k := 4) r1 (by omega) (by omega)
  obtain ⟨M2, hM2⟩ : ∃ M2, M2 = M1.si 20 63 (drw (drw s.2.1)) := ⟨_, rfl⟩
  have f2 : Fq (fun o j => o = 20 ∧ j = 63) M1 M2 := by rw [hM2]; exact Fq.si (c := fun o j => o = 20 ∧ j = 63) Fq.rf ⟨rfl, rfl⟩
  rw [← hw0, ← hM2] at e2
  have r2 : M2.i 20 63 = drw (drw s.2.1) := by rw [hM2, si_i, if_pos ⟨rfl, rfl⟩]
  have f12 : Fq (fun o j => o = 20 ∧ j = 63) M M2 := f1.tr f2
  have ft2 : Fq ts M M2 := f12.mo (fun o j q => Or.inl ⟨q.1, by omega⟩)
  have h2 := h.fx ft2.tx
  have v2 : RvX 26 s.1 M2 := hv.fr f12 (fun o j q => by unfold rdc at q; omega)
  have eh : M.i 26 4 = s.1 12 := hv.2.1
  have hun : x_years_L55 (zn n) Kc (nn + 1) s.2.2.1 s.2.2.2 (zn k) M = (jn (fun (v8 : Int32) (M7 : PM) => lt (if 0 ≤ v8 then 0 else 1 : Int32) fun v9 => lt (s.2.2.2 + v9) fun v10 => jn (fun (v11 : Int32) (M8 : PM) => lt (s.2.2.1 + v11) fun v12 => lt (M8.si 26 4 (s.1 12 + 1)) fun M9 => lt (zn k + 1) fun v13 => x_years_L55 (zn n) Kc nn v12 v10 v13 M9) fun j3 => if 2 ≤ zn what then (j3 (imax 0 v8) M7) else (j3 0 M7)) fun j1 => if 2 ≤ zn what then (bd (x_draws (zn C.nw) M2) fun v14 M10 => bd (x_says 26 (zn t) v14 M10) fun v15 M11 => j1 v15 M11) else (bd (x_walks 26 (zn t) (1 - zn what) M2) fun v16 M12 => j1 v16 M12)) := by
    rw [x_years_L55, if_neg (by rw [zn_le (by omega) (by omega)]; omega), eh, lt_u, h.nt, bde e1, bde e2, h2.nw]
  (rw [hun]; (try simp only [jn_u]))
  have fin : ∀ (A1 : Nat → Int32) (sm of : Int32) (M3 : PM), Fq ts M M3 → RvX 26 A1 M3 → M3.i 20 63 = (yrS C s).2.1 → yrS C s = (yh s.1 A1, (yrS C s).2.1, sm, of) → (lt (M3.si 26 4 (s.1 12 + 1)) fun M9 => lt (zn k + 1) fun v13 => x_years_L55 (zn n) Kc nn sm of v13 M9) = x_years_L55 (zn n) Kc nn (yrS C s).2.2.1 (yrS C s).2.2.2 (zn (k + 1)) (M3.si 26 4 (s.1 12 + 1)) ∧ Fq ts M (M3.si 26 4 (s.1 12 + 1)) ∧ RvX 26 (yrS C s).1 (M3.si 26 4 (s.1 12 + 1)) ∧ (M3.si 26 4 (s.1 12 + 1)).i 20 63 = (yrS C s).2.1 := by
    intro A1 sm of M3 f3 v3 r3 ey
    refine ⟨?_, f3.si (Or.inr (Or.inl ⟨rfl, by omega⟩)), ?_, by rw [si_i, if_neg (by omega)]; exact r3⟩
    · rw [lt_u, lt_u, zn_addl, ey]
    · rw [ey]; exact rx_yh v3 _ rfl
  by_cases c1 : what < 2
  · have c1' : ¬ (2 : Int32) ≤ zn what := by rw [l_le_zn (by omega) (by omega)]; omega
    simp only [if_neg c1']
    rw [sub1_w what c1]
    obtain ⟨wn, wy⟩ := xs_walks h2 (RdS.of26 h2.sh) v2 ht (y := 1 - what) (by omega) ea es
    rw [← ea] at wn wy
    by_cases g : 0 ≤ s.1 t + wyD what ∧ s.1 t + wyD what ≤ zn C.ns - 1
    · have ey : yrS C s = (yh s.1 (wlkA s.1 t (s.1 t + wyD what)), drw (drw s.2.1), s.2.2.1, s.2.2.2) := by
        rw [eS]
        unfold yrQ
        rw [if_pos c1, if_pos g]
      obtain ⟨M3, e3, f3, v3⟩ := wy g
      have hg0 : 0 ≤ s.1 t + wyD what := g.1
      refine ⟨_, ?_, (fin (wlkA s.1 t (s.1 t + wyD what)) (s.2.2.1 + 0) (s.2.2.2 + 0) M3 (ft2.tr (f3.mo rd26_ts)) v3 (by rw [f3.i _ _ (by unfold rdc; omega), r2, ey]) (by rw [ey, Int32.add_zero, Int32.add_zero])).2⟩
      (rw [bde e3, lt_u, if_pos hg0, lt_u]; rw [lt_u])
      exact (fin (wlkA s.1 t (s.1 t + wyD what)) (s.2.2.1 + 0) (s.2.2.2 + 0) M3 (ft2.tr (f3.mo rd26_ts)) v3 (by rw [f3.i _ _ (by unfold rdc; omega), r2, ey]) (by rw [ey, Int32.add_zero, Int32.add_zero])).1
    · have ey : yrS C s = (yh s.1 s.1, drw (drw s.2.1), s.2.2.1, s.2.2.2 + 1) := by
        rw [eS]
        unfold yrQ
        rw [if_pos c1, if_neg g]
      refine ⟨_, ?_, (fin s.1 (s.2.2.1 + 0) (s.2.2.2 + 1) M2 ft2 v2 (by rw [r2, ey]) (by rw [ey, Int32.add_zero])).2⟩
      (rw [bde (wn g), lt_u, if_neg (by decide), lt_u]; rw [lt_u])
      exact (fin s.1 (s.2.2.1 + 0) (s.2.2.2 + 1) M2 ft2 v2 (by rw [r2, ey]) (by rw [ey, Int32.add_zero])).1
  · have c1' : (2 : Int32) ≤ zn what := by rw [l_le_zn (by omega) (by omega)]; omega
    simp only [if_pos c1']
    have e3 := xs_draws r2 hW (show C.nw < 1000 by omega)
    obtain ⟨M3, hM3⟩ : ∃ M3, M3 = M2.si 20 63 (drw (drw (drw s.2.1))) := ⟨_, rfl⟩
    have f3 : Fq (fun o j => o = 20 ∧ j = 63) M2 M3 := by rw [hM3]; exact Fq.si (c := fun o j => o = 20 ∧ j = 63) Fq.rf ⟨rfl, rfl⟩
    rw [← hww, ← hM3] at e3
    have r3 : M3.i 20 63 = drw (drw (drw s.2.1)) := by rw [hM3, si_i, if_pos ⟨rfl, rfl⟩]
    have ft3 : Fq ts M M3 := (f12.tr f3).mo (fun o j q => Or.inl ⟨q.1, by omega⟩)
    have h3 := h.fx ft3.tx
    have v3 : RvX 26 s.1 M3 := v2.fr f3 (fun o j q => by unfold rdc at q; omega)
    obtain ⟨wn, wy⟩ := xs_says h3 (Or.inr rfl) (RdS.of26 h3.sh) v3 ht hw ea es
    by_cases g : tol C w (s.1 t) (s.1 12) ≤ s.1 (4 + t)
    · have ey : yrS C s = (yh s.1 (sayA C s.1 t w (atN s.1 t)), drw (drw (drw s.2.1)), s.2.2.1 + tol C w (s.1 t) (s.1 12), s.2.2.2) := by
        rw [eS]
        unfold yrQ
        rw [if_neg c1, if_pos g]
      obtain ⟨M4, e4, f4, v4, -⟩ := wy g
      obtain ⟨x, x1, x2⟩ := tol_b h.ok hw (s.1 t) (s.1 12)
      have t0 : 0 ≤ tol C w (s.1 t) (s.1 12) := by rw [x2]; exact zn_nonneg (by omega)
      have tm : imax 0 (tol C w (s.1 t) (s.1 12)) = tol C w (s.1 t) (s.1 12) := by
        rw [x2, show (0 : Int32) = zn 0 from rfl, imax_zn (by omega) (by omega), Nat.max_eq_right (by omega)]
      have r4 : M4.i 20 63 = drw (drw (drw s.2.1)) := by rw [f4.i _ _ (by unfold sxc ca rdc; omega)]; exact r3
      refine ⟨_, ?_, (fin (sayA C s.1 t w (atN s.1 t)) (s.2.2.1 + tol C w (s.1 t) (s.1 12)) (s.2.2.2 + 0) M4 (ft3.tr (f4.mo sx26_ts)) v4 (by rw [r4, ey]) (by rw [ey, Int32.add_zero])).2⟩
      (rw [bde e3, bde e4, lt_u, if_pos t0, lt_u]; rw [tm, lt_u])
      exact (fin (sayA C s.1 t w (atN s.1 t)) (s.2.2.1 + tol C w (s.1 t) (s.1 12)) (s.2.2.2 + 0) M4 (ft3.tr (f4.mo sx26_ts)) v4 (by rw [r4, ey]) (by rw [ey, Int32.add_zero])).1
    · have ey : yrS C s = (yh s.1 s.1, drw (drw (drw s.2.1)), s.2.2.1, s.2.2.2 + 1) := by
        rw [eS]
        unfold yrQ
        rw [if_neg c1, if_neg g]
      obtain ⟨M4, e4, f4⟩ := wn g
      have r4 : M4.i 20 63 = drw (drw (drw s.2.1)) := by rw [f4.i _ _ (by unfold ca; omega)]; exact r3
      have v4 : RvX 26 s.1 M4 := v3.fr f4 (fun o j q => by unfold rdc at q; unfold ca; omega)
      refine ⟨_, ?_, (fin s.1 (s.2.2.1 + 0) (s.2.2.2 + 1) M4 (ft3.tr (f4.mo ca_ts)) v4 (by rw [r4, ey]) (by rw [ey, Int32.add_zero])).2⟩
      (rw [bde e3, bde e4, lt_u, if_neg (by decide), lt_u]; rw [show imax 0 (-2) = 0 from by decide, lt_u])
      exact (fin s.1 (s.2.2.1 + 0) (s.2.2.2 + 1) M4 (ft3.tr (f4.mo ca_ts)) v4 (by rw [r4, ey]) (by rw [ey, Int32.add_zero])).1
end
