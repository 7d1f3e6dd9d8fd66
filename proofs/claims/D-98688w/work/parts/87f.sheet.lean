set_option maxRecDepth 100000
/-! SHEET -/
theorem imx9 (v : Int32) : ∃ n, n ≤ 9999 ∧ imax 0 (imin 9999 v) = zn n := by
  unfold imax imin
  by_cases h : v < 9999
  · rw [if_pos h]
    by_cases g : 0 < v
    · rw [if_pos g]
      have g2 : 0 ≤ v := Int32.le_of_lt g
      refine ⟨ix v, ?_, (zn_ix g2).symm⟩
      rw [← zn_ix g2] at h
      have : zn (ix v) < zn 9999 := h
      rw [zn_lt (ix_lt v) (by omega)] at this
      omega
    · rw [if_neg g]
      exact ⟨0, by omega, rfl⟩
  · rw [if_neg h]
    exact ⟨9999, by omega, by decide⟩
def shV (f st : Int32) (k : Nat) : Int32 := itr (fun _ v => v + st) k f
def shW (p1 p2 f st : Int32) (t : Nat) : Int32 := if p1 = 3 then 0 else if zn t < p2 then imax 0 (imin 9999 (if p1 = 0 then ((Int32.toInt8 (shV f st t)).toInt32) else (if p1 = 1 then ((Int32.toInt16 (shV f st t)).toInt32) else shV f st t))) else 0
def shS (p1 p2 f st : Int32) (k : Nat) : Int32 := itr (fun t s => s + shW p1 p2 f st t) k 0
def shA (A : Nat → Int32) (p1 p2 f st : Int32) (n : Nat) : Nat → Int32 := fun j => if 4 ≤ j ∧ j < 4 + n then shW p1 p2 f st (j - 4) else A j
theorem shW_or (p1 p2 f st : Int32) (t : Nat) : ∃ n, n ≤ 9999 ∧ shW p1 p2 f st t = zn n := by
  unfold shW
  split
  · exact ⟨0, by omega, rfl⟩
  · split
    · exact imx9 _
    · exact ⟨0, by omega, rfl⟩
theorem shW_j (p1 p2 f st : Int32) (t : Nat) {α : Type} (J : Int32 → PM → α) (M : PM) : (jn J fun j3 => if p1 = 3 then (j3 0 M) else (if zn t < p2 then (j3 (imax 0 (imin 9999 (if p1 = 0 then ((Int32.toInt8 (shV f st t)).toInt32) else (if p1 = 1 then ((Int32.toInt16 (shV f st t)).toInt32) else shV f st t)))) M) else (j3 0 M))) = J (shW p1 p2 f st t) M := by
  rw [jn_u]
  unfold shW
  by_cases h : p1 = 3
  · rw [if_pos h, if_pos h]
  · rw [if_neg h, if_neg h]
    by_cases g : zn t < p2
    · rw [if_pos g, if_pos g]
    · rw [if_neg g, if_neg g]
section
variable {C : SV} {A : Nat → Int32} {M : PM} {nT nU ch : Nat} {bT : Nat → Nat} {U : Nat → Nat → Int32} {K : Nat → Bool × (Nat → Int32) × Nat} {l : List Int64}
theorem ok_sheet (h : OKA C A) (hC : OKC C) (p1 p2 f st : Int32) : OKA C (shA A p1 p2 f st C.nt) := by
  have := hC.nt4
  refine ⟨fun t ht => ?_, ?_, fun t ht => ?_⟩
  · unfold shA
    rw [if_neg (by omega)]; exact h.1 t ht
  · unfold shA
    rw [if_neg (by omega)]; exact h.2.1
  · unfold shA
    rw [if_pos (by omega)]; exact shW_or _ _ _ _ _
theorem xs_sheet (h : XS C A nT bT nU U ch K l M) {x : Nat} (hx : x ≤ 3) {p2 : Int32} (h4 : p2 ≤ 4) (h0 : x = 3 ∨ 0 ≤ p2) (f st : Int32) : ∃ M1, x_sheet (zn x) p2 f st M = some (if zn x = 3 then -3 else shS (zn x) p2 f st C.nt, M1) ∧ Ge gxc M M1 ∧ XS C (shA A (zn x) p2 f st C.nt) nT bT nU U ch K l M1 ∧ M1.n ≤ M.n + 500 ∧ M1.w ≤ M.w + 5000 := by
  have b1 := h.x.ok.nt4
  have hun : x_sheet (zn x) p2 f st M = x_sheet_L40 (zn x) p2 st (fun (v10 : Int32) (M6 : PM) => if zn x = 3 then (some ((-3), M6)) else (some (v10, M6))) FU 0 f 0 M := by
    unfold x_sheet
    rw [bde (xt_3 hx M), if_neg (by decide), if_pos h4, jn_u]
    by_cases e : zn x = 3
    · rw [if_pos e]
    · rw [if_neg e]
      rcases h0 with w | w
      · exact absurd (by rw [w]; rfl) e
      · rw [if_pos w]
  have := wlp (fun n k (_ : Unit) M2 => x_sheet_L40 (zn x) p2 st (fun (v10 : Int32) (M6 : PM) => if zn x = 3 then (some ((-3), M6)) else (some (v10, M6))) n (shS (zn x) p2 f st k) (shV f st k) (zn k) M2) C.nt FU (FU_lt (by omega)) (fun _ s => s) () (fun k M2 => Fq (fun o _ => o = 23) M M2 ∧ ∀ t, t < 4 → M2.i 23 t = if t < k then shW (zn x) p2 f st t else A (4 + t)) (fun o => ∃ M1, o = some (if zn x = 3 then -3 else shS (zn x) p2 f st C.nt, M1) ∧ Fq (fun o _ => o = 23) M M1 ∧ ∀ t, t < 4 → M1.i 23 t = if t < C.nt then shW (zn x) p2 f st t else A (4 + t)) (fun n k M2 hk hI => ?_) (fun n M2 hI => ?_) M ⟨Fq.rf, fun t ht => by rw [if_neg (by omega)]; exact (h.a.1 t ht).2.1⟩
  · obtain ⟨M1, e1, f1, v1⟩ := this
    have fm : Fq xmt M M1 := f1.mo (d := xmt) (fun o j q => Or.inr (Or.inr (by omega)))
    refine ⟨M1, hun.trans e1, fm.gxm, h.m fm ⟨fun t ht => ?_, ?_, ?_, fun k hk => ?_⟩ (ok_sheet h.ok h.x.ok _ _ _ _) (h.t.fr f1 (by omega) (fun j => by omega)) (h.lx.fr f1 (by omega) (fun j => by omega)), f1.n5, f1.w5⟩
    · obtain ⟨a1, a2, a3⟩ := h.a.1 t ht
      refine ⟨?_, ?_, ?_⟩
      · unfold shA
        rw [if_neg (by omega), f1.i _ _ (by omega)]; exact a1
      · show M1.i 23 t = _
        rw [v1 t ht]
        unfold shA
        by_cases e : t < C.nt
        · rw [if_pos e, if_pos (by omega), Nat.add_sub_cancel_left]
        · rw [if_neg e, if_neg (by omega)]
      · unfold shA
        rw [if_neg (by omega), f1.i _ _ (by omega)]; exact a3
    · unfold shA
      rw [if_neg (by omega), f1.i _ _ (by omega)]; exact h.a.2.1
    · unfold shA
      rw [if_neg (by omega), f1.i _ _ (by omega)]; exact h.a.2.2.1
    · unfold shA
      rw [if_neg (by omega), f1.i _ _ (by omega)]; exact h.a.2.2.2 k hk
  · obtain ⟨f1, i1⟩ := hI
    have e12 : M2.i 20 12 = zn C.nt := (f1.i _ _ (by omega)).trans h.x.nt
    refine ⟨M2.si 23 k (shW (zn x) p2 f st k), ⟨Fq.si (c := fun o _ => o = 23) f1 rfl, fun t ht => ?_⟩, ?_⟩
    · rw [si_i]
      by_cases e : t = k
      · rw [if_pos ⟨rfl, e⟩, if_pos (by omega), e]
      · rw [if_neg (by omega), i1 t ht]
        by_cases g : t < k
        · rw [if_pos g, if_pos (by omega)]
        · rw [if_neg g, if_neg (by omega)]
    · show x_sheet_L40 (zn x) p2 st _ (n + 1) (shS (zn x) p2 f st k) (shV f st k) (zn k) M2 = x_sheet_L40 (zn x) p2 st _ n (shS (zn x) p2 f st k + shW (zn x) p2 f st k) (shV f st k + st) (zn (k + 1)) _
      rw [x_sheet_L40, e12, if_neg (by rw [zn_le (by omega) (by omega)]; omega), lt_u, shW_j, ck_zn (by omega) (by omega), lt_u, ix_zn (by omega), ck_zn (by omega) (by omega), si_i, if_pos ⟨rfl, rfl⟩, lt_u, lt_u, lt_u, zn_addl]
  · obtain ⟨f1, i1⟩ := hI
    have e12 : M2.i 20 12 = zn C.nt := (f1.i _ _ (by omega)).trans h.x.nt
    refine ⟨M2, ?_, f1, i1⟩
    show x_sheet_L40 (zn x) p2 st _ (n + 1) _ _ (zn C.nt) M2 = _
    rw [x_sheet_L40, e12, if_pos (Int32.le_refl _)]
    split <;> rfl
theorem ys_sheet (h : YS C A nT bT nU U ch K l M) {x : Nat} (hx : x ≤ 3) {p2 : Int32} (h4 : p2 ≤ 4) (h0 : x = 3 ∨ 0 ≤ p2) (f st : Int32) : ∃ M1, m_sheet (zn x) p2 f st M = some (if zn x = 3 then -3 else shS (zn x) p2 f st C.nt, M1) ∧ Fq gyc M M1 ∧ YS C (shA A (zn x) p2 f st C.nt) nT bT nU U ch K l M1 := by
  have b1 := h.y.ok.nt4
  obtain ⟨N, hN⟩ : ∃ N, N = M.si 72 13 0 := ⟨_, rfl⟩
  have f0 : Fq yqt M N := by rw [hN]; exact f13.yt
  have hun : m_sheet (zn x) p2 f st M = m_sheet_L42 (zn x) p2 st (fun (v10 : Int32) (M7 : PM) => if zn x = 3 then (some ((-3), M7)) else (some (v10, M7))) FU 0 f 0 N := by
    unfold m_sheet
    rw [lt_u, bde (mt_3 hx _), if_neg (by decide), if_pos h4, jn_u, ← hN]
    by_cases e : x = 3
    · rw [if_pos (by rw [e]; decide)]
    · rw [if_neg (by rw [l_le_zn (by omega) (by omega)]; omega)]
      rcases h0 with w | w
      · exact absurd w e
      · rw [if_pos w]
  have := wlp (fun n k (_ : Unit) M2 => m_sheet_L42 (zn x) p2 st (fun (v10 : Int32) (M7 : PM) => if zn x = 3 then (some ((-3), M7)) else (some (v10, M7))) n (shS (zn x) p2 f st k) (shV f st k) (zn k) M2) C.nt FU (FU_lt (by omega)) (fun _ s => s) () (fun k M2 => Fq (fun o _ => o = 73) N M2 ∧ ∀ j, j < 44 → M2.i 73 j = shA A (zn x) p2 f st k j) (fun o => ∃ M1, o = some (if zn x = 3 then -3 else shS (zn x) p2 f st C.nt, M1) ∧ Fq (fun o _ => o = 73) N M1 ∧ RvY 73 (shA A (zn x) p2 f st C.nt) M1) (fun n k M2 hk hI => ?_) (fun n M2 hI => ?_) N ⟨Fq.rf, fun j hj => by unfold shA; rw [if_neg (by omega), f0.i _ _ (by unfold yqt ts; omega)]; exact h.b j hj⟩
  · obtain ⟨M1, e1, f1, v1⟩ := this
    have fm : Fq ymt M M1 := (f0.mo yqt_ym).tr (f1.mo (d := ymt) (fun o j q => Or.inr q))
    have g0 : Fq (fun o j => o = 72 ∧ j = 13) M N := by rw [hN]; exact Fq.si (c := fun o j => o = 72 ∧ j = 13) Fq.rf ⟨rfl, rfl⟩
    exact ⟨M1, hun.trans e1, fm.gym, h.m fm v1 ((h.t.fr g0 (by omega) (fun j => by omega)).fr f1 (by omega) (fun j => by omega)) ((h.ly.fr g0 (by omega) (fun j => by omega)).fr f1 (by omega) (fun j => by omega))⟩
  · obtain ⟨f1, i1⟩ := hI
    have e12 : M2.i 72 6 = zn C.nt := by rw [f1.i _ _ (by omega), f0.i _ _ (by unfold yqt ts; omega)]; exact h.y.nt
    refine ⟨M2.si 73 (4 + k) (shW (zn x) p2 f st k), ⟨Fq.si (c := fun o _ => o = 73) f1 rfl, fun j hj => ?_⟩, ?_⟩
    · rw [si_i]
      by_cases e : j = 4 + k
      · unfold shA
        rw [if_pos ⟨rfl, e⟩, if_pos (by omega), e, Nat.add_sub_cancel_left]
      · rw [if_neg (by omega), i1 j hj]
        unfold shA
        by_cases g : 4 ≤ j ∧ j < 4 + k
        · rw [if_pos g, if_pos (by omega)]
        · rw [if_neg g, if_neg (by omega)]
    · show m_sheet_L42 (zn x) p2 st _ (n + 1) (shS (zn x) p2 f st k) (shV f st k) (zn k) M2 = m_sheet_L42 (zn x) p2 st _ n (shS (zn x) p2 f st k + shW (zn x) p2 f st k) (shV f st k + st) (zn (k + 1)) _
      rw [m_sheet_L42, e12, if_neg (by rw [zn_le (by omega) (by omega)]; omega), lt_u, shW_j, zn_4l, ck_zn (by omega) (by omega), lt_u, ix_zn (by omega), ck_zn (by omega) (by omega), si_i, if_pos ⟨rfl, rfl⟩, lt_u, lt_u, lt_u, zn_addl]
  · obtain ⟨f1, i1⟩ := hI
    have e12 : M2.i 72 6 = zn C.nt := by rw [f1.i _ _ (by omega), f0.i _ _ (by unfold yqt ts; omega)]; exact h.y.nt
    refine ⟨M2, ?_, f1, i1⟩
    show m_sheet_L42 (zn x) p2 st _ (n + 1) _ _ (zn C.nt) M2 = _
    rw [m_sheet_L42, e12, if_pos (Int32.le_refl _)]
    split <;> rfl
theorem call_sheet (p q r s : Int32) : Call (x_sheet p q r s) (m_sheet p q r s) := by
  refine Call.xy (fun C A nT bT nU U ch K l hC hA h15 ht => ?_)
  have bad : ∀ v : Int32, (∀ M, x_sheet p q r s M = some (v, M)) → (∀ M, m_sheet p q r s M = some (v, M.si 72 13 0)) → ∃ v C' A' nT' bT' nU' U' K' l', l'.length ≤ 15 ∧
    (∀ M, XS C A nT bT nU U ch K l M → ∃ M1, x_sheet p q r s M = some (v, M1) ∧ Ge gxc M M1 ∧ XS C' A' nT' bT' nU' U' ch K' l' M1 ∧ M1.n ≤ M.n + 500 ∧ M1.w ≤ M.w + 5000) ∧
    (∀ M, YS C A nT bT nU U ch K l M → ∃ M2, m_sheet p q r s M = some (v, M2) ∧ Fq gyc M M2 ∧ YS C' A' nT' bT' nU' U' ch K' l' M2) := fun v h1 h2 =>
    ⟨v, C, A, nT, bT, nU, U, K, l, h15, fun M h => ⟨M, h1 M, (Fq.rf (c := xqt)).gx, h, by omega, by omega⟩, fun M h => ⟨M.si 72 13 0, h2 M, f13.yt.gy, h.q f13.yt (h.t.fr f13 (by unfold yq ts; omega) (fun j => by unfold yq ts; omega)) (ly13 h.ly)⟩⟩
  rcases dl_or (n := 3) (by omega) p with ⟨x, hx, rfl⟩ | hn
  case inr =>
    refine bad (-1) (fun M => ?_) (fun M => ?_)
    · unfold x_sheet
      rw [bde (xn_3 hn M), if_pos rfl]
    · unfold m_sheet
      rw [lt_u, bde (mn_3 hn _), if_pos rfl]
  by_cases h4 : q ≤ 4
  case neg =>
    refine bad (-1) (fun M => ?_) (fun M => ?_)
    · unfold x_sheet
      rw [bde (xt_3 hx M), if_neg (by decide), if_neg h4]
    · unfold m_sheet
      rw [lt_u, bde (mt_3 hx _), if_neg (by decide), if_neg h4]
  by_cases h0 : x = 3 ∨ 0 ≤ q
  · exact ⟨_, C, _, nT, bT, nU, U, K, l, h15, fun M h => xs_sheet h hx h4 h0 r s, fun M h => ys_sheet h hx h4 h0 r s⟩
  · have g3 : ¬ zn x = 3 := by
      intro w
      have w2 : zn x = zn 3 := w
      exact h0 (Or.inl (zn_inj (by omega) (by omega) w2))
    have g0 : ¬ 0 ≤ q := fun w => h0 (Or.inr w)
    have g4 : ¬ (3 : Int32) ≤ zn x := by
      rw [l_le_zn (by omega) (by omega)]
      intro w
      exact h0 (Or.inl (by omega))
    refine bad (-2) (fun M => ?_) (fun M => ?_)
    · unfold x_sheet
      rw [bde (xt_3 hx M), if_neg (by decide), if_pos h4, jn_u, if_neg g3, if_neg g0]
    · unfold m_sheet
      rw [lt_u, bde (mt_3 hx _), if_neg (by decide), if_pos h4, jn_u, if_neg g4, if_neg g0]
end
