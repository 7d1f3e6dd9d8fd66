set_option maxRecDepth 100000
/-! WHAT IS HEARD: rows of letters, changes between them -/
def rws (C : SV) (w : Nat) (vb : Bool) (k : Nat) : Nat × (Nat → Int32) := itr (fun j s => if vb = true ∧ vow (C.lt w j) = -1 then s else (s.1 + 1, fun i => if i = s.1 then zn (C.lt w j) else s.2 i)) k (0, fun _ => 0)
theorem rws_s (C : SV) (w : Nat) (vb : Bool) (k : Nat) : rws C w vb (k + 1) = if vb = true ∧ vow (C.lt w k) = -1 then rws C w vb k else ((rws C w vb k).1 + 1, fun i => if i = (rws C w vb k).1 then zn (C.lt w k) else (rws C w vb k).2 i) := rfl
theorem rws_le (C : SV) (w : Nat) (vb : Bool) : ∀ k, (rws C w vb k).1 ≤ k := by
  intro k
  induction k with
  | zero => exact Nat.le_refl _
  | succ k ih =>
    rw [rws_s]
    split
    · omega
    · show (rws C w vb k).1 + 1 ≤ k + 1
      omega
def rwL (C : SV) (w : Nat) (vb : Bool) : Nat := (rws C w vb (C.len w)).1
def rwF (C : SV) (w : Nat) (vb : Bool) : Nat → Int32 := (rws C w vb (C.len w)).2
abbrev bo (vb : Bool) : Int32 := if vb = true then 1 else 0
theorem rwL_6 {C : SV} (h : OKC C) {w : Nat} (hw : w < C.nw) (vb : Bool) : rwL C w vb ≤ 6 := Nat.le_trans (rws_le C w vb _) (h.len6 w hw)
def edR (g : Nat → Int32) (p : Nat → Int32) (i : Nat) (fi : Int32) : Nat → Int32
  | 0 => zn (i + 1)
  | j + 1 => imin (p j + (if fi = g j then 0 else 1)) (imin (p (j + 1)) (edR g p i fi j) + 1)
def edt (f g : Nat → Int32) : Nat → Nat → Int32
  | 0 => fun j => zn j
  | i + 1 => edR g (edt f g i) i (f i)
theorem edt_ss (f g : Nat → Int32) (i j : Nat) : edt f g (i + 1) (j + 1) = imin (edt f g i j + (if f i = g j then 0 else 1)) (imin (edt f g i (j + 1)) (edt f g (i + 1) j) + 1) := rfl
theorem imin_comm (a b : Int32) : imin a b = imin b a := by
  unfold imin
  by_cases h : b < a
  · rw [if_pos h, if_neg (Int32.not_lt.mpr (Int32.le_of_lt h))]
  · rw [if_neg h]
    by_cases g : a < b
    · rw [if_pos g]
    · rw [if_neg g]
      exact Int32.le_antisymm (Int32.not_lt.mp h) (Int32.not_lt.mp g)
theorem edt_sym (f g : Nat → Int32) : ∀ i j, edt f g i j = edt g f j i := by
  intro i
  induction i with
  | zero =>
    intro j
    cases j with
    | zero => rfl
    | succ j => rfl
  | succ i ih =>
    intro j
    induction j with
    | zero => rfl
    | succ j ihj =>
      rw [edt_ss, edt_ss, ih j, ih (j + 1), ihj, imin_comm (edt g f (j + 1) i)]
      congr 2
      by_cases e : f i = g j
      · rw [if_pos e, if_pos e.symm]
      · rw [if_neg e, if_neg (fun w => e w.symm)]
theorem edt_b (f g : Nat → Int32) : ∀ i j, i ≤ 1000 → j ≤ 1000 → ∃ x, x ≤ i + j ∧ edt f g i j = zn x := by
  intro i
  induction i with
  | zero => intro j _ _; exact ⟨j, by omega, rfl⟩
  | succ i ih =>
    intro j
    induction j with
    | zero => intro _ _; exact ⟨i + 1, by omega, rfl⟩
    | succ j ihj =>
      intro hi hj
      obtain ⟨x, x1, x2⟩ := ih j (by omega) (by omega)
      obtain ⟨y, y1, y2⟩ := ih (j + 1) (by omega) (by omega)
      obtain ⟨z, z1, z2⟩ := ihj hi (by omega)
      rw [edt_ss, x2, y2, z2, imin_zn (by omega) (by omega), zn_addl]
      have e : ∃ d, d ≤ 1 ∧ (if f i = g j then (0 : Int32) else 1) = zn d := by
        split
        · exact ⟨0, by omega, rfl⟩
        · exact ⟨1, by omega, rfl⟩
      obtain ⟨d, d1, d2⟩ := e
      rw [d2, zn_add, imin_zn (by omega) (by omega)]
      exact ⟨_, by omega, rfl⟩
def edd (C : SV) (a b : Nat) (vb : Bool) : Int32 := edt (rwF C a vb) (rwF C b vb) (rwL C a vb) (rwL C b vb)
theorem edd_sym (C : SV) (a b : Nat) (vb : Bool) : edd C a b vb = edd C b a vb := edt_sym _ _ _ _
theorem edd_b {C : SV} (h : OKC C) {a b : Nat} (ha : a < C.nw) (hb : b < C.nw) (vb : Bool) : ∃ x, x ≤ 12 ∧ edd C a b vb = zn x := by
  have h1 := rwL_6 h ha vb
  have h2 := rwL_6 h hb vb
  obtain ⟨x, x1, x2⟩ := edt_b (rwF C a vb) (rwF C b vb) (rwL C a vb) (rwL C b vb) (by omega) (by omega)
  exact ⟨x, by omega, x2⟩
section
variable {C : SV} {M : PM} {ra : Nat}
theorem xs_laysRow (h : CX C M) {w c2 : Nat} (hw : w < C.nw) (hc : c2 = 61 ∨ c2 = 62) (vb : Bool) : ∃ M', x_laysRow (zn w) c2 (bo vb) M = some (zn (rwL C w vb), M') ∧ Fq (fun o _ => o = c2) M M' ∧ ∀ i, i < rwL C w vb → M'.i c2 i = rwF C w vb i := by
  have b1 := h.ok.nw10
  have b2 := h.ok.len6 w hw
  have hk : M.k c2 = (20, 6) := by
    rcases hc with e | e
    · rw [e]; exact kd61 h.sh
    · rw [e]; exact kd62 h.sh
  unfold x_laysRow
  refine wlp (fun n k (_ : Unit) M2 => x_laysRow_L6 (zn w) c2 (bo vb) n (zn (rws C w vb k).1) (zn k) M2) (C.len w) FU (FU_lt (by omega)) (fun _ s => s) () (fun k M2 => Fq (fun o _ => o = c2) M M2 ∧ ∀ i, i < (rws C w vb k).1 → M2.i c2 i = (rws C w vb k).2 i) (fun o => ∃ M', o = some (zn (rwL C w vb), M') ∧ Fq (fun o _ => o = c2) M M' ∧ ∀ i, i < rwL C w vb → M'.i c2 i = rwF C w vb i) (fun n k M2 hk2 hI => ?_) (fun n M2 hI => ?_) M ⟨Fq.rf, fun i q => absurd q (Nat.not_lt_zero i)⟩
  · obtain ⟨f, i1⟩ := hI
    have h2 : CX C M2 := h.fa (f.mo (d := ca) (fun o j q => by unfold ca; omega))
    have kk : M2.k c2 = (20, 6) := by rw [f.k]; exact hk
    have rl := rws_le C w vb k
    have el : M2.i 31 (6 * w + k) = zn (C.lt w k) := h2.lt w hw k hk2
    have eidx : (6 : Int32) * zn w + zn k = zn (6 * w + k) := by rw [zn_mull, zn_add]
    show ∃ M', _ ∧ x_laysRow_L6 (zn w) c2 (bo vb) (n + 1) (zn (rws C w vb k).1) (zn k) M2 = x_laysRow_L6 (zn w) c2 (bo vb) n (zn (rws C w vb (k + 1)).1) (zn (k + 1)) M'
    rw [rws_s]
    by_cases g : vb = true ∧ vow (C.lt w k) = -1
    · rw [if_pos g]
      refine ⟨M2, ⟨f, i1⟩, ?_⟩
      have gv := g.1
      subst gv
      (rw [x_laysRow_L6, ck_zn (by omega) (by omega), ix_zn (by omega), h2.len w hw, if_neg (by rw [zn_le (by omega) (by omega)]; omega)]; (try simp only [jn_u]); rw [if_neg (by decide), bde (xs_vowelAt h2 hw hk2), g.2, if_neg (by decide), lt_u, zn_addl])
    · rw [if_neg g]
      refine ⟨M2.si c2 (rws C w vb k).1 (zn (C.lt w k)), ⟨Fq.si (c := fun o _ => o = c2) f rfl, fun i hi => ?_⟩, ?_⟩
      · show _ = if i = (rws C w vb k).1 then zn (C.lt w k) else (rws C w vb k).2 i
        have hi' : i < (rws C w vb k).1 + 1 := hi
        rw [si_i]
        by_cases e : i = (rws C w vb k).1
        · rw [if_pos ⟨rfl, e⟩, if_pos e]
        · rw [if_neg (by omega), if_neg e]; exact i1 i (by omega)
      · show _ = x_laysRow_L6 (zn w) c2 (bo vb) n (zn ((rws C w vb k).1 + 1)) (zn (k + 1)) _
        (rw [x_laysRow_L6, ck_zn (by omega) (by omega), ix_zn (by omega), h2.len w hw, if_neg (by rw [zn_le (by omega) (by omega)]; omega)]; (try simp only [jn_u]); rw [eidx])
        cases vb with
        | false => rw [if_pos (by decide), ck_zn (by omega) (by omega), cka_k kk (by omega) (by omega), lt_u, ix_zn (by omega), ix_zn (by omega), el, lt_u, lt_u, zn_addl, zn_addl]
        | true =>
          rcases vow_or (C.lt w k) with hv | ⟨v, hv5, hv⟩
          · exact absurd ⟨rfl, hv⟩ g
          · rw [if_neg (by decide), bde (xs_vowelAt h2 hw hk2), hv, if_pos (zn_nonneg (by omega)), ck_zn (by omega) (by omega), cka_k kk (by omega) (by omega), lt_u, ix_zn (by omega), ix_zn (by omega), el, lt_u, lt_u, zn_addl, zn_addl]
  · obtain ⟨f, i1⟩ := hI
    have h2 : CX C M2 := h.fa (f.mo (d := ca) (fun o j q => by unfold ca; omega))
    refine ⟨M2, ?_, f, i1⟩
    show x_laysRow_L6 (zn w) c2 (bo vb) (n + 1) _ (zn (C.len w)) M2 = _
    rw [x_laysRow_L6, ck_zn (by omega) (by omega), ix_zn (by omega), h2.len w hw, if_pos (Int32.le_refl _)]
    rfl
theorem ms_layWord (h : CY ra C M) {w c2 : Nat} (hw : w < C.nw) (hc : c2 = 91 ∨ c2 = 92) (vb : Bool) : ∃ M', m_layWord (zn w) c2 (bo vb) M = some (zn (rwL C w vb), M') ∧ Fq (fun o _ => o = c2) M M' ∧ ∀ i, i < rwL C w vb → M'.i c2 i = rwF C w vb i := by
  have b1 := h.ok.nw10
  have b2 := h.ok.len6 w hw
  have hk : M.k c2 = (20, 6) := by
    rcases hc with e | e
    · rw [e]; exact kd91 h.sh
    · rw [e]; exact kd92 h.sh
  unfold m_layWord
  refine wlp (fun n k (_ : Unit) M2 => m_layWord_L6 (zn w) c2 (bo vb) n (zn (rws C w vb k).1) (zn k) M2) (C.len w) FU (FU_lt (by omega)) (fun _ s => s) () (fun k M2 => Fq (fun o _ => o = c2) M M2 ∧ ∀ i, i < (rws C w vb k).1 → M2.i c2 i = (rws C w vb k).2 i) (fun o => ∃ M', o = some (zn (rwL C w vb), M') ∧ Fq (fun o _ => o = c2) M M' ∧ ∀ i, i < rwL C w vb → M'.i c2 i = rwF C w vb i) (fun n k M2 hk2 hI => ?_) (fun n M2 hI => ?_) M ⟨Fq.rf, fun i q => absurd q (Nat.not_lt_zero i)⟩
  · obtain ⟨f, i1⟩ := hI
    have h2 : CY ra C M2 := h.fa (f.mo (d := ca) (fun o j q => by unfold ca; omega))
    have kk : M2.k c2 = (20, 6) := by rw [f.k]; exact hk
    have rl := rws_le C w vb k
    have l1 := h.ok.lt26 w hw k hk2
    show ∃ M', _ ∧ m_layWord_L6 (zn w) c2 (bo vb) (n + 1) (zn (rws C w vb k).1) (zn k) M2 = m_layWord_L6 (zn w) c2 (bo vb) n (zn (rws C w vb (k + 1)).1) (zn (k + 1)) M'
    rw [rws_s]
    by_cases g : vb = true ∧ vow (C.lt w k) = -1
    · rw [if_pos g]
      refine ⟨M2, ⟨f, i1⟩, ?_⟩
      have gv := g.1
      subst gv
      (rw [m_layWord_L6, ck_zn (by omega) (by omega), ix_zn (by omega), h2.len w hw, if_neg (by rw [zn_le (by omega) (by omega)]; omega)]; (try simp only [jn_u]); rw [if_neg (by decide), bde (ms_letter h2 hw hk2), bde (ms_vowelOf l1 _), g.2, if_pos (by trivial), lt_u, zn_addl])
    · rw [if_neg g]
      refine ⟨M2.si c2 (rws C w vb k).1 (zn (C.lt w k)), ⟨Fq.si (c := fun o _ => o = c2) f rfl, fun i hi => ?_⟩, ?_⟩
      · show _ = if i = (rws C w vb k).1 then zn (C.lt w k) else (rws C w vb k).2 i
        have hi' : i < (rws C w vb k).1 + 1 := hi
        rw [si_i]
        by_cases e : i = (rws C w vb k).1
        · rw [if_pos ⟨rfl, e⟩, if_pos e]
        · rw [if_neg (by omega), if_neg e]; exact i1 i (by omega)
      · show _ = m_layWord_L6 (zn w) c2 (bo vb) n (zn ((rws C w vb k).1 + 1)) (zn (k + 1)) _
        (rw [m_layWord_L6, ck_zn (by omega) (by omega), ix_zn (by omega), h2.len w hw, if_neg (by rw [zn_le (by omega) (by omega)]; omega)]; (try simp only [jn_u]))
        cases vb with
        | false => rw [if_pos (by decide), bde (ms_letter h2 hw hk2), cka_k kk (by omega) (by omega), lt_u, ix_zn (by omega), lt_u, lt_u, zn_addl, zn_addl]
        | true =>
          rcases vow_or (C.lt w k) with hv | ⟨v, hv5, hv⟩
          · exact absurd ⟨rfl, hv⟩ g
          · rw [if_neg (by decide), bde (ms_letter h2 hw hk2), bde (ms_vowelOf l1 _), hv, if_neg (by rw [zn_eq_m (by omega)]; exact id), bde (ms_letter h2 hw hk2), cka_k kk (by omega) (by omega), lt_u, ix_zn (by omega), lt_u, lt_u, zn_addl, zn_addl]
  · obtain ⟨f, i1⟩ := hI
    have h2 : CY ra C M2 := h.fa (f.mo (d := ca) (fun o j q => by unfold ca; omega))
    refine ⟨M2, ?_, f, i1⟩
    show m_layWord_L6 (zn w) c2 (bo vb) (n + 1) _ (zn (C.len w)) M2 = _
    rw [m_layWord_L6, ck_zn (by omega) (by omega), ix_zn (by omega), h2.len w hw, if_pos (Int32.le_refl _)]
    rfl
end
