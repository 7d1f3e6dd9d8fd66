set_option maxRecDepth 100000
section
variable {C : SV} {A B : Nat → Int32} {M M1 : PM} {l : List Int64}
theorem ms_yrStep (h : CY 83 C M) (hT : 0 < C.nt) (hW : 0 < C.nw) {s : YT} (hA : OKA C s.1) (hv : RvY 100 s.1 M) (hr : M.i 72 50 = s.2.1) {n k nn : Nat} (hk : k < n) (hn : n ≤ 60) (Kc : Int32 → Int32 → PM → Option (Int32 × PM)) :
    ∃ M', m_years_L59 (zn n) Kc (nn + 1) s.2.2.1 s.2.2.2 (zn k) M = m_years_L59 (zn n) Kc nn (yrS C s).2.2.1 (yrS C s).2.2.2 (zn (k + 1)) M' ∧ Fq ts M M' ∧ RvY 100 (yrS C s).1 M' ∧ M'.i 72 50 = (yrS C s).2.1 := by
  have b1 := h.ok.nt4
  have b2 := h.ok.nw10
  have b3 := h.ok.ns6
  obtain ⟨t, ht0⟩ : ∃ t, t = u16 (drw s.2.1) % C.nt := ⟨_, rfl⟩
  obtain ⟨what, hw0⟩ : ∃ what, what = u16 (drw (drw s.2.1)) % 4 := ⟨_, rfl⟩
  obtain ⟨w, hww⟩ : ∃ w, w = u16 (drw (drw (drw s.2.1))) % C.nw := ⟨_, rfl⟩
  have ht : t < C.nt := by rw [ht0]; exact Nat.mod_lt _ hT
  have hw4 : what < 4 := by rw [hw0]; exact Nat.mod_lt _ (by omega)
  have hw : w < C.nw := by rw [hww]; exact Nat.mod_lt _ hW
  have eS : yrS C s = yrQ C s t what w (drw (drw s.2.1)) (drw (drw (drw s.2.1))) := by rw [ht0, hw0, hww]; rfl
  obtain ⟨ea, es⟩ := at_zn h.ok hA ht
  have e1 := ms_draw hr hT (show C.nt < 1000 by omega)
  obtain ⟨M1, hM1⟩ : ∃ M1, M1 = M.si 72 50 (drw s.2.1) := ⟨_, rfl⟩
  have f1 : Fq (fun o j => o = 72 ∧ j = 50) M M1 := by rw [hM1]; exact Fq.si (c := fun o j => o = 72 ∧ j = 50) Fq.rf ⟨rfl, rfl⟩
  rw [← ht0, ← hM1] at e1
  have r1 : M1.i 72 50 = drw s.2.1 := by rw [hM1, si_i, if_pos ⟨rfl, rfl⟩]
  have e2 : m_draw 4 M1 = _ := ms_draw (k := 4) r1 (by omega) (by omega)
  obtain ⟨M2, hM2⟩ : ∃ M2, M2 = M1.si 72 50 (drw (drw s.2.1)) := ⟨_, rfl⟩
  have f2 : Fq (fun o j => o = 72 ∧ j = 50) M1 M2 := by rw [hM2]; exact Fq.si (c := fun o j => o = 72 ∧ j = 50) Fq.rf ⟨rfl, rfl⟩
  rw [← hw0, ← hM2] at e2
  have r2 : M2.i 72 50 = drw (drw s.2.1) := by rw [hM2, si_i, if_pos ⟨rfl, rfl⟩]
  have f12 : Fq (fun o j => o = 72 ∧ j = 50) M M2 := f1.tr f2
  have ft2 : Fq ts M M2 := f12.mo (fun o j q => by rw [q.1, q.2]; unfold ts; omega)
  have h2 := h.fy ft2.ty
  have v2 : RvY 100 s.1 M2 := hv.fr f12 (fun j => by omega)
  have eh : M2.i 100 12 = s.1 12 := v2 12 (by omega)
  have hun : m_years_L59 (zn n) Kc (nn + 1) s.2.2.1 s.2.2.2 (zn k) M = (jn (fun (v8 : Int32) (v9 : Int32) (M8 : PM) => lt (if v9 = 0 then 1 else 0 : Int32) fun v10 => lt (s.2.2.2 + v10) fun v11 => ck 12 44 <| lt (M8.si 100 (ix 12) (s.1 12 + 1)) fun M9 => lt (zn k + 1) fun v12 => m_years_L59 (zn n) Kc nn v8 v11 v12 M9) fun j1 => if 2 ≤ zn what then (bd (m_draw (zn C.nw) M2) fun v13 M10 => bd (m_refusesSay 100 (zn t) v13 M10) fun v14 M11 => lt (if v14 = 0 then 1 else 0 : Int32) fun v15 => if v15 = 0 then (j1 s.2.2.1 v15 M11) else (bd (m_goSay 100 (zn t) v13 M11) fun v16 M12 => lt (s.2.2.1 + v16) fun v17 => j1 v17 v15 M12)) else (bd (m_refusesWalk 100 (zn t) (1 - zn what) M2) fun v18 M13 => lt (if v18 = 0 then 1 else 0 : Int32) fun v19 => if v19 = 0 then (j1 s.2.2.1 v19 M13) else (bd (m_goWalk 100 (zn t) (1 - zn what) M13) fun v20 M14 => j1 s.2.2.1 v19 M14))) := by
    rw [m_years_L59, if_neg (by rw [zn_le (by omega) (by omega)]; omega), h.nt, bde e1, bde e2, ck12, ix12, eh, lt_u, h2.nw]
  (rw [hun]; (try simp only [jn_u]))
  have fin : ∀ (A1 : Nat → Int32) (sm of : Int32) (M3 : PM), Fq ts M M3 → RvY 100 A1 M3 → M3.i 72 50 = (yrS C s).2.1 → yrS C s = (yh s.1 A1, (yrS C s).2.1, sm, of) → (ck 12 44 <| lt (M3.si 100 (ix 12) (s.1 12 + 1)) fun M9 => lt (zn k + 1) fun v12 => m_years_L59 (zn n) Kc nn sm of v12 M9) = m_years_L59 (zn n) Kc nn (yrS C s).2.2.1 (yrS C s).2.2.2 (zn (k + 1)) (M3.si 100 12 (s.1 12 + 1)) ∧ Fq ts M (M3.si 100 12 (s.1 12 + 1)) ∧ RvY 100 (yrS C s).1 (M3.si 100 12 (s.1 12 + 1)) ∧ (M3.si 100 12 (s.1 12 + 1)).i 72 50 = (yrS C s).2.1 := by
    intro A1 sm of M3 f3 v3 r3 ey
    refine ⟨?_, f3.si (by unfold ts; omega), ?_, by rw [si_i, if_neg (by omega)]; exact r3⟩
    · rw [ck12, ix12, lt_u, lt_u, zn_addl, ey]
    · rw [ey]; exact ry_yh v3 _ rfl
  by_cases c1 : what < 2
  · have c1' : ¬ (2 : Int32) ≤ zn what := by rw [l_le_zn (by omega) (by omega)]; omega
    rw [if_neg c1', sub1_w what c1]
    have er := ms_refusesWalk h2 (Or.inr rfl) v2 ht (y := 1 - what) (by omega) ea
    rw [← ea] at er
    by_cases g : 0 ≤ s.1 t + wyD what ∧ s.1 t + wyD what ≤ zn C.ns - 1
    · have ey : yrS C s = (yh s.1 (wlkA s.1 t (s.1 t + wyD what)), drw (drw s.2.1), s.2.2.1, s.2.2.2) := by
        rw [eS]
        unfold yrQ
        rw [if_pos c1, if_pos g]
      rw [if_pos g] at er
      obtain ⟨M3, e3, f3, v3⟩ := ms_goWalk h2 (Or.inr rfl) v2 ht (y := 1 - what) (by omega) ea
      rw [← ea] at e3 v3
      have ft3 : Fq ts M M3 := ft2.tr (f3.mo (fun o j q => sy100_ts o j (Or.inr (Or.inl q))))
      refine ⟨_, ?_, (fin (wlkA s.1 t (s.1 t + wyD what)) s.2.2.1 (s.2.2.2 + 0) M3 ft3 v3 (by rw [f3.i _ _ (by omega), r2, ey]) (by rw [ey, Int32.add_zero])).2⟩
      rw [bde er, if_pos rfl, lt_u, if_neg (by decide), bde e3, if_neg (by decide), lt_u, lt_u]
      exact (fin (wlkA s.1 t (s.1 t + wyD what)) s.2.2.1 (s.2.2.2 + 0) M3 ft3 v3 (by rw [f3.i _ _ (by omega), r2, ey]) (by rw [ey, Int32.add_zero])).1
    · have ey : yrS C s = (yh s.1 s.1, drw (drw s.2.1), s.2.2.1, s.2.2.2 + 1) := by
        rw [eS]
        unfold yrQ
        rw [if_pos c1, if_neg g]
      rw [if_neg g] at er
      refine ⟨_, ?_, (fin s.1 s.2.2.1 (s.2.2.2 + 1) M2 ft2 v2 (by rw [r2, ey]) (by rw [ey])).2⟩
      rw [bde er, if_neg (by decide), lt_u, if_pos rfl, if_pos rfl, lt_u, lt_u]
      exact (fin s.1 s.2.2.1 (s.2.2.2 + 1) M2 ft2 v2 (by rw [r2, ey]) (by rw [ey])).1
  · have c1' : (2 : Int32) ≤ zn what := by rw [l_le_zn (by omega) (by omega)]; omega
    rw [if_pos c1']
    have e3 := ms_draw r2 hW (show C.nw < 1000 by omega)
    obtain ⟨M3, hM3⟩ : ∃ M3, M3 = M2.si 72 50 (drw (drw (drw s.2.1))) := ⟨_, rfl⟩
    have f3 : Fq (fun o j => o = 72 ∧ j = 50) M2 M3 := by rw [hM3]; exact Fq.si (c := fun o j => o = 72 ∧ j = 50) Fq.rf ⟨rfl, rfl⟩
    rw [← hww, ← hM3] at e3
    have r3 : M3.i 72 50 = drw (drw (drw s.2.1)) := by rw [hM3, si_i, if_pos ⟨rfl, rfl⟩]
    have ft3 : Fq ts M M3 := (f12.tr f3).mo (fun o j q => by rw [q.1, q.2]; unfold ts; omega)
    have h3 := h.fy ft3.ty
    have v3 : RvY 100 s.1 M3 := v2.fr f3 (fun j => by omega)
    obtain ⟨M4, e4, f4⟩ := ms_refusesSay h3 (Or.inr rfl) v3 ht hw
    have ft4 : Fq ts M M4 := ft3.tr (f4.mo ca_ts)
    have h4 := h.fy ft4.ty
    have v4 : RvY 100 s.1 M4 := v3.fr f4 (fun j => by unfold ca; omega)
    have r4 : M4.i 72 50 = drw (drw (drw s.2.1)) := by rw [f4.i _ _ (by unfold ca; omega)]; exact r3
    by_cases g : tol C w (s.1 t) (s.1 12) ≤ s.1 (4 + t)
    · have ey : yrS C s = (yh s.1 (sayA C s.1 t w (atN s.1 t)), drw (drw (drw s.2.1)), s.2.2.1 + tol C w (s.1 t) (s.1 12), s.2.2.2) := by
        rw [eS]
        unfold yrQ
        rw [if_neg c1, if_pos g]
      rw [if_pos g] at e4
      obtain ⟨M5, e5, f5, v5, -⟩ := ms_goSay h4 (Or.inr rfl) v4 ht hw ea es
      have r5 : M5.i 72 50 = drw (drw (drw s.2.1)) := by rw [f5.i _ _ (by unfold syc ca; omega)]; exact r4
      refine ⟨_, ?_, (fin (sayA C s.1 t w (atN s.1 t)) (s.2.2.1 + tol C w (s.1 t) (s.1 12)) (s.2.2.2 + 0) M5 (ft4.tr (f5.mo sy100_ts)) v5 (by rw [r5, ey]) (by rw [ey, Int32.add_zero])).2⟩
      rw [bde e3, bde e4, if_pos rfl, lt_u, if_neg (by decide), bde e5, lt_u, if_neg (by decide), lt_u, lt_u]
      exact (fin (sayA C s.1 t w (atN s.1 t)) (s.2.2.1 + tol C w (s.1 t) (s.1 12)) (s.2.2.2 + 0) M5 (ft4.tr (f5.mo sy100_ts)) v5 (by rw [r5, ey]) (by rw [ey, Int32.add_zero])).1
    · have ey : yrS C s = (yh s.1 s.1, drw (drw (drw s.2.1)), s.2.2.1, s.2.2.2 + 1) := by
        rw [eS]
        unfold yrQ
        rw [if_neg c1, if_neg g]
      rw [if_neg g] at e4
      refine ⟨_, ?_, (fin s.1 s.2.2.1 (s.2.2.2 + 1) M4 ft4 v4 (by rw [r4, ey]) (by rw [ey])).2⟩
      rw [bde e3, bde e4, if_neg (by decide), lt_u, if_pos rfl, if_pos rfl, lt_u, lt_u]
      exact (fin s.1 s.2.2.1 (s.2.2.2 + 1) M4 ft4 v4 (by rw [r4, ey]) (by rw [ey])).1
end
