set_option maxRecDepth 100000
section
variable {C : SV} {A : Nat → Int32} {M M1 : PM} {l : List Int64}
theorem yrQ_done (hC : OKC C) {s : YT} {t : Nat} (ht : t < C.nt) (what w : Nat) (r2 r3 : Int32) {d e : Nat} (he : e < 256) (h1 : s.1 13 = zn (d ||| e)) : ∃ e, e < 256 ∧ (yrQ C s t what w r2 r3).1 13 = zn (d ||| e) := by
  have b1 := hC.ne8
  have b4 := hC.nt4
  have same : ∃ e, e < 256 ∧ yh s.1 s.1 13 = zn (d ||| e) := ⟨e, he, by unfold yh; rw [if_neg (by omega)]; exact h1⟩
  unfold yrQ
  split
  · split
    · refine ⟨e, he, ?_⟩
      show yh s.1 (wlkA s.1 _ _) 13 = _
      unfold yh wlkA
      rw [if_neg (by omega), if_neg (by omega), if_neg (by omega)]; exact h1
    · exact same
  · split
    · obtain ⟨x, hx, ex⟩ := dob_lt hC (s.1 13) (zn t) (s.1 t) w
      have hx8 : x < 256 := Nat.lt_of_lt_of_le hx (p2_8 b1)
      refine ⟨e ||| x, Nat.or_lt_two_pow (n := 8) he hx8, ?_⟩
      show yh s.1 (sayA C s.1 _ _ _) 13 = _
      unfold yh sayA
      rw [if_neg (by omega), if_neg (by omega), if_neg (by omega), if_pos rfl, ex, h1, zn_or, Nat.or_assoc]
    · exact same
end
