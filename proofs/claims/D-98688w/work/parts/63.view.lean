set_option maxRecDepth 100000
/-! WHAT THE MEMORY SHOWS. The core: stations, words, travellers, errands; words; errands; the rule's text -/
def SV : Type := (Nat × Nat × Nat × Nat) × ((Nat → Nat) × (Nat → Nat → Nat) × (Nat → Nat) × (Nat → Int32)) × ((Nat → Nat) × (Nat → Nat) × (Nat → Nat) × (Nat → Nat)) × (Nat × (Nat → Nat))
def SV.ns (C : SV) : Nat := C.1.1
def SV.nw (C : SV) : Nat := C.1.2.1
def SV.nt (C : SV) : Nat := C.1.2.2.1
def SV.ne (C : SV) : Nat := C.1.2.2.2
def SV.len (C : SV) : Nat → Nat := C.2.1.1
def SV.lt (C : SV) : Nat → Nat → Nat := C.2.1.2.1
def SV.mn (C : SV) : Nat → Nat := C.2.1.2.2.1
def SV.sc (C : SV) : Nat → Int32 := C.2.1.2.2.2
def SV.who (C : SV) : Nat → Nat := C.2.2.1.1
def SV.em (C : SV) : Nat → Nat := C.2.2.1.2.1
def SV.wh (C : SV) : Nat → Nat := C.2.2.1.2.2.1
def SV.wo (C : SV) : Nat → Nat := C.2.2.1.2.2.2
def SV.rl (C : SV) : Nat := C.2.2.2.1
def SV.rb (C : SV) : Nat → Nat := C.2.2.2.2
/-- what the rule is worth -/
def SV.ru (C : SV) : Dn := match (prs C.rb C.rl).2 with
  | some D => D
  | none => fun _ => 0
def OKC (C : SV) : Prop := (1 ≤ C.ns ∧ C.ns ≤ 6) ∧ C.nw ≤ 10 ∧ C.nt ≤ 4 ∧ C.ne ≤ 8 ∧ (∀ w, w < C.nw → (1 ≤ C.len w ∧ C.len w ≤ 6) ∧ C.mn w ≤ 9 ∧ (C.sc w = -1 ∨ ∃ d, d ≤ 9 ∧ C.sc w = zn d) ∧ ∀ k, k < C.len w → C.lt w k < 26) ∧
  (∀ e, e < C.ne → C.who e < C.nt ∧ C.em e ≤ 9 ∧ C.wh e < C.ns ∧ C.wo e ≤ 99) ∧ C.rl ≤ 40 ∧ (∀ k, C.rb k < 256) ∧ (0 < C.rl → ∃ D, prs C.rb C.rl = (C.rl, some D))
/-- a tree in the memory, of a height, that means something -/
def DenT (M : PM) : Nat → Nat → Dn → Prop
  | 0, _, _ => False
  | h + 1, a, D => (105 ≤ a ∧ a < M.n) ∧ (((M.k a).1 = 4 ∧ D = fun _ => M.i a 1) ∨ ((M.k a).1 = 5 ∧ M.r a 2 = some 20 ∧ D = fun q => q (lx (M.i a 1))) ∨
      ((M.k a).1 = 3 ∧ ∃ b E, M.r a 1 = some b ∧ DenT M h b E ∧ D = fun q => -(E q)) ∨
      ((M.k a).1 = 6 ∧ ∃ b c E F, M.r a 2 = some b ∧ M.r a 3 = some c ∧ DenT M h b E ∧ DenT M h c F ∧ D = fun q => cmb (M.i a 1) (E q) (F q)))
theorem DenT.mono {M : PM} : ∀ {h a : Nat} {D : Dn}, DenT M h a D → ∀ {h' : Nat}, h ≤ h' → DenT M h' a D := by
  intro h
  induction h with
  | zero => intro a D q; exact q.elim
  | succ h ih =>
    intro a D q h' hh
    obtain ⟨g, rfl⟩ : ∃ g, h' = g + 1 := ⟨h' - 1, by omega⟩
    refine ⟨q.1, ?_⟩
    rcases q.2 with q | q | ⟨q1, b, E, q2, q3, q4⟩ | ⟨q1, b, c, E, F, q2, q3, q4, q5, q6⟩
    · exact Or.inl q
    · exact Or.inr (Or.inl q)
    · exact Or.inr (Or.inr (Or.inl ⟨q1, b, E, q2, ih q3 (by omega), q4⟩))
    · exact Or.inr (Or.inr (Or.inr ⟨q1, b, c, E, F, q2, q3, ih q4 (by omega), ih q5 (by omega), q6⟩))
/-- trees stay, where their cells stay -/
theorem DenT.fr {M M' : PM} (hn : M.n ≤ M'.n) (hs : ∀ o, 105 ≤ o → o < M.n → 3 ≤ (M.k o).1 → (M.k o).1 ≤ 6 → M'.k o = M.k o ∧ M'.i o = M.i o ∧ M'.r o = M.r o) : ∀ {h a : Nat} {D : Dn}, DenT M h a D → DenT M' h a D := by
  intro h
  induction h with
  | zero => intro a D q; exact q.elim
  | succ h ih =>
    intro a D q
    have hk : 3 ≤ (M.k a).1 ∧ (M.k a).1 ≤ 6 := by
      rcases q.2 with q | q | q | q <;> (have := q.1; omega)
    obtain ⟨e1, e2, e3⟩ := hs a q.1.1 q.1.2 hk.1 hk.2
    refine ⟨⟨q.1.1, Nat.lt_of_lt_of_le q.1.2 hn⟩, ?_⟩
    rw [e1, e2, e3]
    rcases q.2 with q | q | ⟨q1, b, E, q2, q3, q4⟩ | ⟨q1, b, c, E, F, q2, q3, q4, q5, q6⟩
    · exact Or.inl q
    · exact Or.inr (Or.inl q)
    · exact Or.inr (Or.inr (Or.inl ⟨q1, b, E, q2, ih q3, q4⟩))
    · exact Or.inr (Or.inr (Or.inr ⟨q1, b, c, E, F, q2, q3, ih q4, ih q5, q6⟩))
def ask7 (M : PM) : Nat → Int32 := fun i => if i < 7 then M.i 20 (31 + i) else 0
theorem lx_lt (c : Int32) : lx c < 7 := by
  unfold lx
  repeat' split
  all_goals omega
theorem v_den {M : PM} (hk : M.k 20 = (0, 0)) : ∀ {h a : Nat} {D : Dn}, DenT M h a D → ∀ n, h ≤ n → v_G n a M = some (D (ask7 M), M) := by
  intro h
  induction h with
  | zero => intro a D q; exact q.elim
  | succ h ih =>
    intro a D q n hn
    obtain ⟨m, rfl⟩ : ∃ m, n = m + 1 := ⟨n - 1, by omega⟩
    rcases q.2 with ⟨q1, q4⟩ | ⟨q1, q2, q4⟩ | ⟨q1, b, E, q2, q3, q4⟩ | ⟨q1, b, c, E, F, q2, q3, q4, q5, q6⟩
    · subst q4
      simp only [v_G, q1, b_nu_value, ckk, Nat.reduceEqDiff, Nat.reduceAdd, Nat.reduceMul, Nat.reduceSub, Nat.reduceLT, Nat.reduceLeDiff, Nat.reduceDiv, Nat.add_zero, Nat.zero_add, Nat.not_lt_zero, Nat.zero_le, Nat.le_refl, Nat.lt_irrefl, ↓reduceIte, reduceCtorEq]
    · subst q4
      simp only [v_G, q1, b_sg_value, ckk, q2, lt_u, rf_s, hk, Nat.reduceEqDiff, Nat.reduceAdd, Nat.reduceMul, Nat.reduceSub, Nat.reduceLT, Nat.reduceLeDiff, Nat.reduceDiv, Nat.add_zero, Nat.zero_add, Nat.not_lt_zero, Nat.zero_le, Nat.le_refl, Nat.lt_irrefl, ↓reduceIte]
      unfold lx
      repeat' split
      all_goals first | rfl | simp_all
    · subst q4
      simp only [v_G, q1, b_ls_value, ckk, q2, lt_u, rf_s, ih q3 m (by omega), bd_s, Nat.reduceEqDiff, Nat.reduceAdd, Nat.reduceMul, Nat.reduceSub, Nat.reduceLT, Nat.reduceLeDiff, Nat.reduceDiv, Nat.add_zero, Nat.zero_add, Nat.not_lt_zero, Nat.zero_le, Nat.le_refl, Nat.lt_irrefl, ↓reduceIte]
    · subst q6
      simp only [v_G, q1, b_ac_value, ckk, q2, q3, lt_u, rf_s, ih q4 m (by omega), ih q5 m (by omega), bd_s, Nat.reduceEqDiff, Nat.reduceAdd, Nat.reduceMul, Nat.reduceSub, Nat.reduceLT, Nat.reduceLeDiff, Nat.reduceDiv, Nat.add_zero, Nat.zero_add, Nat.not_lt_zero, Nat.zero_le, Nat.le_refl, Nat.lt_irrefl, ↓reduceIte]
      unfold cmb
      repeat' split
      all_goals first | rfl | simp_all [ckb]
def RuX (C : SV) (M : PM) : Prop := (C.rl = 0 ∧ M.r 20 38 = none) ∨ (0 < C.rl ∧ ∃ a, M.r 20 38 = some a ∧ DenT M 100 a C.ru)
def RuY (a : Nat) (C : SV) (M : PM) : Prop := (a = 83 ∨ a = 84) ∧ M.r 72 22 = some a ∧ M.i 72 24 = zn C.rl ∧ ∀ k, k < C.rl → M.i a k = (Int32.toInt8 (zn (C.rb k))).toInt32
def CX (C : SV) (M : PM) : Prop := (Sh M ∧ OKC C) ∧ (M.i 20 10 = zn C.ns ∧ M.i 20 11 = zn C.nw ∧ M.i 20 12 = zn C.nt ∧ M.i 20 13 = zn C.ne) ∧ (∀ w, w < C.nw → M.i 32 w = zn (C.len w) ∧ M.i 33 w = zn (C.mn w) ∧ M.i 34 w = C.sc w ∧ ∀ k, k < C.len w → M.i 31 (6 * w + k) = zn (C.lt w k)) ∧
  (∀ e, e < C.ne → M.i 35 e = zn (C.who e) ∧ M.i 36 e = zn (C.em e) ∧ M.i 37 e = zn (C.wh e) ∧ M.i 38 e = zn (C.wo e)) ∧ RuX C M
def CY (a : Nat) (C : SV) (M : PM) : Prop := (Sh M ∧ OKC C) ∧ (M.i 72 1 = zn C.ns ∧ M.i 72 2 = zn C.nw ∧ M.i 72 6 = zn C.nt ∧ M.i 72 7 = zn C.ne) ∧ (∀ w, w < C.nw → M.i 75 w = zn (C.len w) ∧ M.i 76 (2 * w) = zn (C.mn w) ∧ M.i 76 (2 * w + 1) = C.sc w ∧ ∀ k, k < C.len w → M.i 74 (6 * w + k) = zn (C.lt w k)) ∧
  (∀ e, e < C.ne → M.i 77 (4 * e + 0) = zn (C.who e) ∧ M.i 77 (4 * e + 1) = zn (C.em e) ∧ M.i 77 (4 * e + 2) = zn (C.wh e) ∧ M.i 77 (4 * e + 3) = zn (C.wo e)) ∧ RuY a C M
section
variable {C : SV} {M : PM} {a : Nat}
theorem OKC.ns1 (h : OKC C) : 1 ≤ C.ns := h.1.1
theorem OKC.ns6 (h : OKC C) : C.ns ≤ 6 := h.1.2
theorem OKC.nw10 (h : OKC C) : C.nw ≤ 10 := h.2.1
theorem OKC.nt4 (h : OKC C) : C.nt ≤ 4 := h.2.2.1
theorem OKC.ne8 (h : OKC C) : C.ne ≤ 8 := h.2.2.2.1
theorem OKC.len1 (h : OKC C) (w : Nat) (q : w < C.nw) : 1 ≤ C.len w := (h.2.2.2.2.1 w q).1.1
theorem OKC.len6 (h : OKC C) (w : Nat) (q : w < C.nw) : C.len w ≤ 6 := (h.2.2.2.2.1 w q).1.2
theorem OKC.mn9 (h : OKC C) (w : Nat) (q : w < C.nw) : C.mn w ≤ 9 := (h.2.2.2.2.1 w q).2.1
theorem OKC.scd (h : OKC C) (w : Nat) (q : w < C.nw) : C.sc w = -1 ∨ ∃ d, d ≤ 9 ∧ C.sc w = zn d := (h.2.2.2.2.1 w q).2.2.1
theorem OKC.lt26 (h : OKC C) (w : Nat) (q : w < C.nw) (k : Nat) (g : k < C.len w) : C.lt w k < 26 := (h.2.2.2.2.1 w q).2.2.2 k g
theorem OKC.whot (h : OKC C) (e : Nat) (q : e < C.ne) : C.who e < C.nt := (h.2.2.2.2.2.1 e q).1
theorem OKC.em9 (h : OKC C) (e : Nat) (q : e < C.ne) : C.em e ≤ 9 := (h.2.2.2.2.2.1 e q).2.1
theorem OKC.whs (h : OKC C) (e : Nat) (q : e < C.ne) : C.wh e < C.ns := (h.2.2.2.2.2.1 e q).2.2.1
theorem OKC.wo99 (h : OKC C) (e : Nat) (q : e < C.ne) : C.wo e ≤ 99 := (h.2.2.2.2.2.1 e q).2.2.2
theorem OKC.rl40 (h : OKC C) : C.rl ≤ 40 := h.2.2.2.2.2.2.1
theorem OKC.rb8 (h : OKC C) (k : Nat) : C.rb k < 256 := h.2.2.2.2.2.2.2.1 k
theorem OKC.rok (h : OKC C) (q : 0 < C.rl) : ∃ D, prs C.rb C.rl = (C.rl, some D) := h.2.2.2.2.2.2.2.2 q
theorem CX.sh (h : CX C M) : Sh M := h.1.1
theorem CX.ok (h : CX C M) : OKC C := h.1.2
theorem CX.ns (h : CX C M) : M.i 20 10 = zn C.ns := h.2.1.1
theorem CX.nw (h : CX C M) : M.i 20 11 = zn C.nw := h.2.1.2.1
theorem CX.nt (h : CX C M) : M.i 20 12 = zn C.nt := h.2.1.2.2.1
theorem CX.ne (h : CX C M) : M.i 20 13 = zn C.ne := h.2.1.2.2.2
theorem CX.len (h : CX C M) (w : Nat) (q : w < C.nw) : M.i 32 w = zn (C.len w) := (h.2.2.1 w q).1
theorem CX.mn (h : CX C M) (w : Nat) (q : w < C.nw) : M.i 33 w = zn (C.mn w) := (h.2.2.1 w q).2.1
theorem CX.sc (h : CX C M) (w : Nat) (q : w < C.nw) : M.i 34 w = C.sc w := (h.2.2.1 w q).2.2.1
theorem CX.lt (h : CX C M) (w : Nat) (q : w < C.nw) (k : Nat) (g : k < C.len w) : M.i 31 (6 * w + k) = zn (C.lt w k) := (h.2.2.1 w q).2.2.2 k g
theorem CX.who (h : CX C M) (e : Nat) (q : e < C.ne) : M.i 35 e = zn (C.who e) := (h.2.2.2.1 e q).1
theorem CX.em (h : CX C M) (e : Nat) (q : e < C.ne) : M.i 36 e = zn (C.em e) := (h.2.2.2.1 e q).2.1
theorem CX.wh (h : CX C M) (e : Nat) (q : e < C.ne) : M.i 37 e = zn (C.wh e) := (h.2.2.2.1 e q).2.2.1
theorem CX.wo (h : CX C M) (e : Nat) (q : e < C.ne) : M.i 38 e = zn (C.wo e) := (h.2.2.2.1 e q).2.2.2
theorem CX.ru (h : CX C M) : RuX C M := h.2.2.2.2
theorem CY.sh (h : CY a C M) : Sh M := h.1.1
theorem CY.ok (h : CY a C M) : OKC C := h.1.2
theorem CY.ns (h : CY a C M) : M.i 72 1 = zn C.ns := h.2.1.1
theorem CY.nw (h : CY a C M) : M.i 72 2 = zn C.nw := h.2.1.2.1
theorem CY.nt (h : CY a C M) : M.i 72 6 = zn C.nt := h.2.1.2.2.1
theorem CY.ne (h : CY a C M) : M.i 72 7 = zn C.ne := h.2.1.2.2.2
theorem CY.len (h : CY a C M) (w : Nat) (q : w < C.nw) : M.i 75 w = zn (C.len w) := (h.2.2.1 w q).1
theorem CY.mn (h : CY a C M) (w : Nat) (q : w < C.nw) : M.i 76 (2 * w) = zn (C.mn w) := (h.2.2.1 w q).2.1
theorem CY.sc (h : CY a C M) (w : Nat) (q : w < C.nw) : M.i 76 (2 * w + 1) = C.sc w := (h.2.2.1 w q).2.2.1
theorem CY.lt (h : CY a C M) (w : Nat) (q : w < C.nw) (k : Nat) (g : k < C.len w) : M.i 74 (6 * w + k) = zn (C.lt w k) := (h.2.2.1 w q).2.2.2 k g
theorem CY.who (h : CY a C M) (e : Nat) (q : e < C.ne) : M.i 77 (4 * e) = zn (C.who e) := (h.2.2.2.1 e q).1
theorem CY.em (h : CY a C M) (e : Nat) (q : e < C.ne) : M.i 77 (4 * e + 1) = zn (C.em e) := (h.2.2.2.1 e q).2.1
theorem CY.wh (h : CY a C M) (e : Nat) (q : e < C.ne) : M.i 77 (4 * e + 2) = zn (C.wh e) := (h.2.2.2.1 e q).2.2.1
theorem CY.wo (h : CY a C M) (e : Nat) (q : e < C.ne) : M.i 77 (4 * e + 3) = zn (C.wo e) := (h.2.2.2.1 e q).2.2.2
theorem CY.ru (h : CY a C M) : RuY a C M := h.2.2.2.2
end
/-! the scratch of a sum's working; the scratch of a whole call -/
abbrev ca (o j : Nat) : Prop := (o = 20 ∧ 31 ≤ j ∧ j ≤ 37) ∨ o = 50 ∨ (61 ≤ o ∧ o ≤ 63) ∨ (o = 72 ∧ ((14 ≤ j ∧ j ≤ 18) ∨ j = 25)) ∨ o = 85 ∨ o = 86 ∨ (91 ≤ o ∧ o ≤ 93)
abbrev ts (o j : Nat) : Prop := (o = 20 ∧ ((17 ≤ j ∧ j ≤ 19) ∨ j = 24 ∨ (31 ≤ j ∧ j ≤ 37) ∨ j = 39 ∨ j = 44 ∨ j = 47 ∨ j = 48 ∨ j = 51 ∨ j = 57 ∨ (61 ≤ j ∧ j ≤ 63))) ∨ (o = 26 ∧ 4 ≤ j) ∨ (27 ≤ o ∧ o ≤ 30) ∨ (40 ≤ o ∧ o ≤ 50) ∨ (o = 52 ∧ 4 ≤ j) ∨ (53 ≤ o ∧ o ≤ 68) ∨
  (o = 72 ∧ ((14 ≤ j ∧ j ≤ 18) ∨ j = 25 ∨ j = 31 ∨ j = 33 ∨ (40 ≤ j ∧ j ≤ 43) ∨ (48 ≤ j ∧ j ≤ 50))) ∨ (80 ≤ o ∧ o ≤ 82) ∨ (84 ≤ o ∧ o ≤ 86) ∨ (88 ≤ o ∧ o ≤ 100) ∨ o = 104
/-- what a query of the system, of the reference writes -/
abbrev xq (o j : Nat) : Prop := ts o j ∨ (o = 20 ∧ j = 67) ∨ o = 71
abbrev yq (o j : Nat) : Prop := ts o j ∨ (o = 72 ∧ (j = 12 ∨ j = 13)) ∨ o = 79
theorem ca_ts (o j : Nat) (h : ca o j) : ts o j := by
  unfold ca at h
  unfold ts
  omega
theorem Sh.fr {c : Nat → Nat → Prop} {M M' : PM} (h : Sh M) (f : Fq c M M') (hc : ∀ q ∈ shR, ¬ c q.1 q.2.1) : Sh M' :=
  ⟨by rw [f.1]; exact h.1, fun j q e => by rw [f.k]; exact h.2.1 j q e, fun q hq => by rw [f.r _ _ (hc q hq)]; exact h.2.2 q hq⟩
theorem RuX.fr {c : Nat → Nat → Prop} {C : SV} {M M' : PM} (h : RuX C M) (f : Fq c M M') (hc : ∀ o j, (105 ≤ o ∨ (o = 20 ∧ j = 38)) → ¬ c o j) : RuX C M' := by
  have e : M'.r 20 38 = M.r 20 38 := f.r 20 38 (hc 20 38 (Or.inr ⟨rfl, rfl⟩))
  rcases h with ⟨h1, h2⟩ | ⟨h1, a, h2, h3⟩
  · exact Or.inl ⟨h1, by rw [e]; exact h2⟩
  · refine Or.inr ⟨h1, a, by rw [e]; exact h2, h3.fr (Nat.le_of_eq f.1.symm) (fun o ho _ _ _ => ⟨by rw [f.k], ?_, ?_⟩)⟩
    · funext j
      exact f.i o j (hc o j (Or.inl ho))
    · funext j
      exact f.r o j (hc o j (Or.inl ho))
theorem CX.fr {c : Nat → Nat → Prop} {C : SV} {M M' : PM} (h : CX C M) (f : Fq c M M') (h1 : ∀ q ∈ shR, ¬ c q.1 q.2.1) (hc : ∀ o j, (105 ≤ o ∨ (31 ≤ o ∧ o ≤ 38) ∨ (o = 20 ∧ (j = 38 ∨ (10 ≤ j ∧ j ≤ 13)))) → ¬ c o j) : CX C M' := by
  obtain ⟨⟨a1, a2⟩, ⟨b1, b2, b3, b4⟩, c1, d1, e1⟩ := h
  refine ⟨⟨a1.fr f h1, a2⟩, ⟨?_, ?_, ?_, ?_⟩, fun w hw => ?_, fun e he => ?_, e1.fr f (fun o j q => hc o j (by omega))⟩
  · rw [f.i _ _ (hc _ _ (by omega))]; exact b1
  · rw [f.i _ _ (hc _ _ (by omega))]; exact b2
  · rw [f.i _ _ (hc _ _ (by omega))]; exact b3
  · rw [f.i _ _ (hc _ _ (by omega))]; exact b4
  · rw [f.i 32 w (hc _ _ (by omega)), f.i 33 w (hc _ _ (by omega)), f.i 34 w (hc _ _ (by omega))]
    obtain ⟨g1, g2, g3, g4⟩ := c1 w hw
    refine ⟨g1, g2, g3, fun k hk => ?_⟩
    rw [f.i 31 _ (hc _ _ (by omega))]
    exact g4 k hk
  · rw [f.i 35 e (hc _ _ (by omega)), f.i 36 e (hc _ _ (by omega)), f.i 37 e (hc _ _ (by omega)), f.i 38 e (hc _ _ (by omega))]
    exact d1 e he
theorem CY.fr {c : Nat → Nat → Prop} {a : Nat} {C : SV} {M M' : PM} (h : CY a C M) (f : Fq c M M') (h1 : ∀ q ∈ shR, ¬ c q.1 q.2.1) (hc : ∀ o j, ((74 ≤ o ∧ o ≤ 77) ∨ o = a ∨ (o = 72 ∧ (j = 1 ∨ j = 2 ∨ j = 6 ∨ j = 7 ∨ j = 22 ∨ j = 24))) → ¬ c o j) : CY a C M' := by
  obtain ⟨⟨a1, a2⟩, ⟨b1, b2, b3, b4⟩, c1, d1, e0, e1, e2, e3⟩ := h
  refine ⟨⟨a1.fr f h1, a2⟩, ⟨?_, ?_, ?_, ?_⟩, fun w hw => ?_, fun e he => ?_, e0, ?_, ?_, fun k hk => ?_⟩
  · rw [f.i _ _ (hc _ _ (by omega))]; exact b1
  · rw [f.i _ _ (hc _ _ (by omega))]; exact b2
  · rw [f.i _ _ (hc _ _ (by omega))]; exact b3
  · rw [f.i _ _ (hc _ _ (by omega))]; exact b4
  · rw [f.i 75 w (hc _ _ (by omega)), f.i 76 _ (hc _ _ (by omega)), f.i 76 _ (hc _ _ (by omega))]
    obtain ⟨g1, g2, g3, g4⟩ := c1 w hw
    refine ⟨g1, g2, g3, fun k hk => ?_⟩
    rw [f.i 74 _ (hc _ _ (by omega))]
    exact g4 k hk
  · rw [f.i 77 _ (hc _ _ (by omega)), f.i 77 _ (hc _ _ (by omega)), f.i 77 _ (hc _ _ (by omega)), f.i 77 _ (hc _ _ (by omega))]
    exact d1 e he
  · rw [f.r _ _ (hc _ _ (by omega))]; exact e1
  · rw [f.i _ _ (hc _ _ (by omega))]; exact e2
  · rw [f.i _ _ (hc _ _ (by omega))]; exact e3 k hk
theorem shR_ca : ∀ q ∈ shR, ¬ ca q.1 q.2.1 := by decide +kernel
theorem shR_ts : ∀ q ∈ shR, ¬ ts q.1 q.2.1 := by decide +kernel
theorem shR_xq : ∀ q ∈ shR, ¬ xq q.1 q.2.1 := by decide +kernel
theorem shR_yq : ∀ q ∈ shR, ¬ yq q.1 q.2.1 := by decide +kernel
theorem CX.fa {C : SV} {M M' : PM} (h : CX C M) (f : Fq ca M M') : CX C M' := h.fr f shR_ca (fun o j q => by unfold ca; omega)
theorem CY.fa {a : Nat} {C : SV} {M M' : PM} (h : CY a C M) (f : Fq ca M M') : CY a C M' := h.fr f shR_ca (fun o j q => by
  have := h.ru.1
  unfold ca
  omega)
