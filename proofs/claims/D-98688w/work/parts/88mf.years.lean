set_option maxRecDepth 100000
section
variable {C : SV} {A : Nat → Int32} {M M1 : PM} {l : List Int64}
theorem call_years (p q : Int32) : Call (x_years p q) (m_years p q) := by
  refine Call.of (fun C A l hC hA hl => ?_)
  have b1 := hC.nt4
  have b2 := hC.nw10
  have b3 := hC.ne8
  have bad : ∀ v : Int32, (∀ M, CX C M → x_years p q M = some (v, M)) → (∀ M, CY 83 C M → m_years p q M = some (v, M.si 72 13 0)) → ∃ v l', l'.length ≤ 15 ∧ QX C A l l' v (x_years p q) ∧ QY C A l l' v (m_years p q) := fun v h1 h2 =>
    ⟨v, l, hl, fun M h ha _ hx => ⟨M, h1 M h, Fq.rf, hx⟩, fun M h ha _ hx => ⟨M.si 72 13 0, h2 M h, f13, ly13 hx⟩⟩
  rcases Nat.eq_zero_or_pos C.nt with e | hT
  · refine bad (-2) (fun M h => ?_) (fun M h => ?_)
    · unfold x_years
      rw [h.nt, e, if_pos (show zn 0 = 0 from rfl)]
    · unfold m_years
      rw [lt_u, (h.fy f13).nt, e, if_pos (show zn 0 = 0 from rfl)]
  rcases Nat.eq_zero_or_pos C.nw with e | hW
  · refine bad (-2) (fun M h => ?_) (fun M h => ?_)
    · unfold x_years
      rw [h.nt, if_neg (by rw [zn_eq_l (by omega) (by omega)]; omega), h.nw, e, if_pos (show zn 0 = 0 from rfl)]
    · unfold m_years
      rw [lt_u, (h.fy f13).nt, if_neg (by rw [zn_eq_l (by omega) (by omega)]; omega), (h.fy f13).nw, e, if_pos (show zn 0 = 0 from rfl)]
  rcases d1_or (n := 60) (by omega) q with ⟨n, h1, hn, rfl⟩ | hq
  · obtain ⟨d, hd, hdA⟩ := hA.2.1
    have hd8 : d < 256 := Nat.lt_of_lt_of_le hd (p2_8 b3)
    obtain ⟨e, he, hee⟩ := yrT_done hC hT hdA p n
    have hY := fun k => yrT_s C A p k
    have hY0 := yrT_0 C A p
    have hYo := fun k => yrT_ok hC hT hW hA p k
    generalize yrT C A p = Y at hee hY hY0 hYo
    exact ⟨_, _, two15 _ _, xq_years hT hW h1 hn p hY0 hY hYo hd8 he hdA hee, yq_years hT hW h1 hn p hY0 hY hYo hdA hee⟩
  · have hq' : ¬ (1 ≤ q ∧ q ≤ 60) := hq
    refine bad (-1) (fun M h => ?_) (fun M h => ?_)
    · unfold x_years
      rw [h.nt, if_neg (by rw [zn_eq_l (by omega) (by omega)]; omega), h.nw, if_neg (by rw [zn_eq_l (by omega) (by omega)]; omega), bde (show x_in q.toInt64 1 60 M = some (0, M) from by rw [x_in_160, if_neg hq']), if_pos rfl]
    · unfold m_years
      rw [lt_u, (h.fy f13).nt, if_neg (by rw [zn_eq_l (by omega) (by omega)]; omega), (h.fy f13).nw, if_neg (by rw [zn_eq_l (by omega) (by omega)]; omega), bde (show m_in q 1 60 (M.si 72 13 0) = some (0, M.si 72 13 0) from by rw [m_in32, if_neg hq']), if_pos rfl]
end
