set_option maxRecDepth 100000
/-! ASK -/
def lfc (C : SV) (v n : Int32) (k : Nat) : Int32 := itr (fun w s => s + (if oft C w v = n then 1 else 0)) k 0
def lftP (C : SV) (v : Int32) (k : Nat) : Int32 := itr (fun n s => imax s (lfc C v (zn n) C.nw)) k 0
def lft (C : SV) (v : Int32) : Int32 := lftP C v 7
theorem lfc_b (C : SV) (v n : Int32) (k : Nat) : ∃ x, x ≤ k ∧ lfc C v n k = zn x := by
  unfold lfc
  refine itr_inv (fun k s => ∃ x, x ≤ k ∧ s = zn x) ⟨0, Nat.le_refl _, rfl⟩ (fun j _ a h => ?_)
  obtain ⟨x, h1, h2⟩ := h
  subst h2
  split
  · exact ⟨x + 1, by omega, zn_addl x 1⟩
  · exact ⟨x, by omega, Int32.add_zero _⟩
theorem lft_b {C : SV} (h : OKC C) (v : Int32) : ∃ x, x ≤ 10 ∧ lft C v = zn x := by
  have b1 := h.nw10
  unfold lft lftP
  refine itr_inv (fun k s => ∃ x, x ≤ 10 ∧ s = zn x) ⟨0, by omega, rfl⟩ (fun j _ a h => ?_)
  obtain ⟨x, h1, h2⟩ := h
  obtain ⟨y, g1, g2⟩ := lfc_b C v (zn j) C.nw
  rw [h2, g2, imax_zn (by omega) (by omega)]
  exact ⟨_, by omega, rfl⟩
def akB (C : SV) (k : Nat) : Nat := itr (fun j s => if lft C (zn s) ≤ lft C (zn (j + 1)) then s else j + 1) k 0
theorem akB_s (C : SV) (k : Nat) : akB C (k + 1) = if lft C (zn (akB C k)) ≤ lft C (zn (k + 1)) then akB C k else k + 1 := rfl
section
variable {C : SV} {A : Nat → Int32} {M M1 : PM} {l : List Int64}
theorem xs_lfc (h : CX C M) (v c2 n : Int32) (Kc : Int32 → PM → Option (Int32 × PM)) : x_leftBy_L16 v c2 n Kc FU 0 0 M = Kc (lfc C v n C.nw) M := by
  have b1 := h.ok.nw10
  refine nlp (fun nn k s => x_leftBy_L16 v c2 n Kc nn s (zn k) M) C.nw FU (FU_lt (by omega)) (fun w s => s + (if oft C w v = n then 1 else 0)) 0 _ (fun nn k hk => ?_) (fun nn => ?_)
  · show x_leftBy_L16 v c2 n Kc (nn + 1) (lfc C v n k) (zn k) M = x_leftBy_L16 v c2 n Kc nn (lfc C v n k + (if oft C k v = n then 1 else 0)) (zn (k + 1)) M
    rw [x_leftBy_L16, h.nw, if_neg (by rw [zn_le (by omega) (by omega)]; omega), bde (xs_vowelIn h hk v), lt_u, lt_u, lt_u, zn_addl]
  · show x_leftBy_L16 v c2 n Kc (nn + 1) (lfc C v n C.nw) (zn C.nw) M = _
    rw [x_leftBy_L16, h.nw, if_pos (Int32.le_refl _)]
theorem xs_leftBy (h : CX C M) (v : Int32) : x_leftBy v M = some (lft C v, M) := by
  unfold x_leftBy
  refine nlp (fun nn k s => x_leftBy_L4 v nn s (zn k) M) 7 FU (FU_lt (by omega)) (fun n s => imax s (lfc C v (zn n) C.nw)) 0 _ (fun nn k hk => ?_) (fun nn => ?_)
  · show x_leftBy_L4 v (nn + 1) (lftP C v k) (zn k) M = x_leftBy_L4 v nn (imax (lftP C v k) (lfc C v (zn k) C.nw)) (zn (k + 1)) M
    rw [x_leftBy_L4, if_neg (by rw [l_lt_zn (by omega) (by omega)]; omega), xs_lfc h, lt_u, lt_u, zn_addl]
  · show x_leftBy_L4 v (nn + 1) (lftP C v 7) (zn 7) M = _
    rw [x_leftBy_L4, if_pos (by decide)]
    rfl
theorem ms_lfc (h : CY 83 C M) (c1 c2 v c4 n : Int32) (Kc : Int32 → PM → Option (Int32 × PM)) : m_ask_L47 c1 c2 v c4 n Kc FU 0 0 M = Kc (lfc C v n C.nw) M := by
  have b1 := h.ok.nw10
  refine nlp (fun nn k s => m_ask_L47 c1 c2 v c4 n Kc nn s (zn k) M) C.nw FU (FU_lt (by omega)) (fun w s => s + (if oft C w v = n then 1 else 0)) 0 _ (fun nn k hk => ?_) (fun nn => ?_)
  · show m_ask_L47 c1 c2 v c4 n Kc (nn + 1) (lfc C v n k) (zn k) M = m_ask_L47 c1 c2 v c4 n Kc nn (lfc C v n k + (if oft C k v = n then 1 else 0)) (zn (k + 1)) M
    rw [m_ask_L47, h.nw, if_neg (by rw [zn_le (by omega) (by omega)]; omega), bde (ms_often h hk v), lt_u, lt_u, lt_u, zn_addl]
  · show m_ask_L47 c1 c2 v c4 n Kc (nn + 1) (lfc C v n C.nw) (zn C.nw) M = _
    rw [m_ask_L47, h.nw, if_pos (Int32.le_refl _)]
theorem ms_lft (h : CY 83 C M) (c1 c2 v : Int32) (Kc : Int32 → PM → Option (Int32 × PM)) : m_ask_L34 c1 c2 v Kc FU 0 0 M = Kc (lft C v) M := by
  refine nlp (fun nn k s => m_ask_L34 c1 c2 v Kc nn s (zn k) M) 7 FU (FU_lt (by omega)) (fun n s => imax s (lfc C v (zn n) C.nw)) 0 _ (fun nn k hk => ?_) (fun nn => ?_)
  · show m_ask_L34 c1 c2 v Kc (nn + 1) (lftP C v k) (zn k) M = m_ask_L34 c1 c2 v Kc nn (imax (lftP C v k) (lfc C v (zn k) C.nw)) (zn (k + 1)) M
    rw [m_ask_L34, if_neg (by rw [l_lt_zn (by omega) (by omega)]; omega), ms_lfc h, lt_u, lt_u, zn_addl]
  · show m_ask_L34 c1 c2 v Kc (nn + 1) (lftP C v 7) (zn 7) M = _
    rw [m_ask_L34, if_pos (by decide)]
    rfl
theorem xq_ask (hw : 0 < C.nw) : QX C A l [(lft C (zn (akB C 4))).toInt64] (zn (akB C 4)) x_ask := by
  intro M h ha _ hl
  have b1 := h.ok.nw10
  have h2 := h.fx (f67 (M := M))
  obtain ⟨M2, e2, f2, l2⟩ := xs_tell0 M ((lft C (zn (akB C 4))).toInt64)
  refine ⟨M2, ?_, f2.wx, l2⟩
  unfold x_ask
  rw [h.nw, if_neg (by rw [zn_eq_l (by omega) (by omega)]; omega)]
  refine nlp (fun nn k s => x_ask_L14 (fun (v7 : Int32) (M4 : PM) => lt (M4.si 20 67 0) fun M5 => bd (x_leftBy v7 M5) fun v8 M6 => bd (x_tells (Int32.toInt64 v8) M6) fun _ M7 => some (v7, M7)) nn (zn s) (zn (k + 1)) M) 4 FU (FU_lt (by omega)) (fun j s => if lft C (zn s) ≤ lft C (zn (j + 1)) then s else j + 1) 0 _ (fun nn k hk => ?_) (fun nn => ?_)
  · show x_ask_L14 _ (nn + 1) (zn (akB C k)) (zn (k + 1)) M = x_ask_L14 _ nn (zn (akB C (k + 1))) (zn (k + 1 + 1)) M
    rw [x_ask_L14, if_neg (by rw [l_le_zn (by omega) (by omega)]; omega), bde (xs_leftBy h _), bde (xs_leftBy h _), lt_u, lt_u, zn_addl, akB_s]
    by_cases g : lft C (zn (akB C k)) ≤ lft C (zn (k + 1))
    · rw [if_pos g, if_pos g]
    · rw [if_neg g, if_neg g]
  · show x_ask_L14 _ (nn + 1) (zn (akB C 4)) (zn (4 + 1)) M = _
    rw [x_ask_L14, if_pos (by decide), lt_u, bde (xs_leftBy h2 _), bde e2]
theorem yq_ask (hw : 0 < C.nw) : QY C A l [(lft C (zn (akB C 4))).toInt64] (zn (akB C 4)) m_ask := by
  intro M h ha _ hl
  have b1 := h.ok.nw10
  have h' := h.fy (f13 (M := M))
  obtain ⟨M2, e2, f2, l2⟩ := ms_tell0 (M.si 72 13 0) ((lft C (zn (akB C 4))).toInt64)
  refine ⟨M2, ?_, f13.tr f2.wy, l2⟩
  obtain ⟨N, hN⟩ : ∃ N, N = M.si 72 13 0 := ⟨_, rfl⟩
  rw [← hN] at h' e2
  unfold m_ask
  rw [lt_u, ← hN, h'.nw, if_neg (by rw [zn_eq_l (by omega) (by omega)]; omega)]
  have loop := nlp (fun nn k s => m_ask_L23 (fun (v19 : Int32) (v20 : Int32) (M9 : PM) => lt (M9.si 72 12 0) fun M10 => bd (m_tell (Int32.toInt64 v20) M10) fun _ M11 => some (v19, M11)) nn (zn s) (lft C (zn s)) (zn (k + 1)) N) 4 29999 (by omega) (fun j s => if lft C (zn s) ≤ lft C (zn (j + 1)) then s else j + 1) 0 (some (zn (akB C 4), M2)) (fun nn k hk => ?_) (fun nn => ?_)
  · obtain ⟨x, x1, x2⟩ := lft_b h.ok (zn 0)
    show m_ask_L23 _ (29999 + 1) (-1) 100000000 0 N = _
    (rw [m_ask_L23, if_neg (by decide), ms_lft h']; (try simp only [jn_u]); rw [show (0 : Int32) = zn 0 from rfl, x2, if_pos (by rw [zn_lt_l (by omega) (by omega)]; omega), lt_u, ← x2])
    exact loop
  · show m_ask_L23 _ (nn + 1) (zn (akB C k)) (lft C (zn (akB C k))) (zn (k + 1)) N = m_ask_L23 _ nn (zn (akB C (k + 1))) (lft C (zn (akB C (k + 1)))) (zn (k + 1 + 1)) N
    (rw [m_ask_L23, if_neg (by rw [l_le_zn (by omega) (by omega)]; omega), ms_lft h']; (try simp only [jn_u]); rw [akB_s])
    by_cases g : lft C (zn (akB C k)) ≤ lft C (zn (k + 1))
    · rw [if_neg (Int32.not_lt.mpr g), if_pos g, lt_u, zn_addl]
    · rw [if_pos (Int32.not_le.mp g), if_neg g, lt_u, zn_addl]
  · show m_ask_L23 _ (nn + 1) (zn (akB C 4)) (lft C (zn (akB C 4))) (zn (4 + 1)) N = _
    rw [m_ask_L23, if_pos (by decide), lt_u, bde e2]
theorem call_ask : Call x_ask m_ask := by
  refine Call.of (fun C A l hC hA hl => ?_)
  have b1 := hC.nw10
  rcases Nat.eq_zero_or_pos C.nw with e | e
  · refine ⟨-2, l, hl, fun M h ha _ hx => ⟨M, ?_, Fq.rf, hx⟩, fun M h ha _ hx => ⟨M.si 72 13 0, ?_, f13, ly13 hx⟩⟩
    · unfold x_ask
      rw [h.nw, e, if_pos (show zn 0 = 0 from rfl)]
    · unfold m_ask
      rw [lt_u, (h.fy f13).nw, e, if_pos (show zn 0 = 0 from rfl)]
  · exact ⟨_, _, one15 _, xq_ask e, yq_ask e⟩
end
