set_option maxRecDepth 100000
section
variable {C : SV} {A : Nat → Int32} {M M1 : PM} {l : List Int64}
theorem yrS_q (C : SV) (s : YT) : yrS C s = yrQ C s (u16 (drw s.2.1) % C.nt) (u16 (drw (drw s.2.1)) % 4) (u16 (drw (drw (drw s.2.1))) % C.nw) (drw (drw s.2.1)) (drw (drw (drw s.2.1))) := rfl
theorem yrS_done (hC : OKC C) (hT : 0 < C.nt) {s : YT} {d e : Nat} (he : e < 256) (h1 : s.1 13 = zn (d ||| e)) : ∃ e, e < 256 ∧ (yrS C s).1 13 = zn (d ||| e) := by
  rw [yrS_q]
  have ht : u16 (drw s.2.1) % C.nt < C.nt := Nat.mod_lt _ hT
  generalize u16 (drw s.2.1) % C.nt = t at ht
  generalize u16 (drw (drw s.2.1)) % 4 = what
  generalize u16 (drw (drw (drw s.2.1))) % C.nw = w
  exact yrQ_done hC ht what w _ _ he h1
end
