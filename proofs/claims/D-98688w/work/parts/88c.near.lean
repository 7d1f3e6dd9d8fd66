set_option maxRecDepth 100000
/-! DIFFER, NEAR -/
section
variable {C : SV} {A : Nat → Int32} {M M1 : PM} {l : List Int64}
theorem xq_differ {a b : Nat} (ha : a < C.nw) (hb : b < C.nw) : QX C A l [(edd C a b true).toInt64] (edd C a b false) (x_differ (zn a) (zn b)) := by
  intro M h hA _ hl
  obtain ⟨M1, e1, f1⟩ := xs_changesOf (h.fx (f67 (M := M))) ha hb true
  have e1' : x_changesOf (zn a) (zn b) 1 (M.si 20 67 0) = _ := e1
  obtain ⟨M2, e2, f2, l2⟩ := xs_tells (LX.fa (lx0 M) f1) (by show 0 < 16; omega) ((edd C a b true).toInt64)
  obtain ⟨M3, e3, f3⟩ := xs_changesOf (((h.fx (f67 (M := M))).fa f1).fx f2.wx) ha hb false
  have e3' : x_changesOf (zn a) (zn b) 0 M2 = _ := e3
  refine ⟨M3, ?_, ((f67.tr f1.x).tr f2.wx).tr f3.x, LX.fa l2 f3⟩
  unfold x_differ
  rw [bde (xt_word h ha), if_neg (by decide), bde (xt_word h hb), if_neg (by decide), lt_u, bde e1', bde e2, bde e3']
theorem yq_differ {a b : Nat} (ha : a < C.nw) (hb : b < C.nw) : QY C A l [(edd C a b true).toInt64] (edd C a b false) (m_differ (zn a) (zn b)) := by
  intro M h hA _ hl
  have h' := h.fy (f13 (M := M))
  obtain ⟨M1, e1, f1⟩ := ms_differBy (h'.fy (f12 (M := M.si 72 13 0))) ha hb true
  have e1' : m_differBy (zn a) (zn b) 1 ((M.si 72 13 0).si 72 12 0) = _ := e1
  obtain ⟨M2, e2, f2, l2⟩ := ms_tell (LY.fa (ly0 (M.si 72 13 0)) f1) (by show 0 < 20; omega) ((edd C a b true).toInt64)
  obtain ⟨M3, e3, f3⟩ := ms_differBy (((h'.fy (f12 (M := M.si 72 13 0))).fa f1).fy f2.wy) ha hb false
  have e3' : m_differBy (zn a) (zn b) 0 M2 = _ := e3
  refine ⟨M3, ?_, (((f13.tr f12).tr f1.y).tr f2.wy).tr f3.y, LY.fa l2 f3⟩
  unfold m_differ
  rw [lt_u, bde (mt_word h' ha), if_neg (by decide), bde (mt_word h' hb), if_neg (by decide), lt_u, bde e1', bde e2, bde e3']
theorem call_differ (p q : Int32) : Call (x_differ p q) (m_differ p q) := by
  refine Call.of (fun C A l hC hA hl => ?_)
  have b1 := hC.nw10
  rcases dm_or (show C.nw < 2147483648 by omega) p with ⟨w, hw, rfl⟩ | hn
  · rcases dm_or (show C.nw < 2147483648 by omega) q with ⟨s, hs, rfl⟩ | hn2
    · exact ⟨_, _, one15 _, xq_differ hw hs, yq_differ hw hs⟩
    · refine ⟨-1, l, hl, fun M h ha _ hx => ⟨M, ?_, Fq.rf, hx⟩, fun M h ha _ hx => ⟨M.si 72 13 0, ?_, f13, ly13 hx⟩⟩
      · unfold x_differ
        rw [bde (xt_word h hw), if_neg (by decide), bde (xn_word h hn2), if_pos rfl]
      · unfold m_differ
        rw [lt_u, bde (mt_word (h.fy f13) hw), if_neg (by decide), bde (mn_word (h.fy f13) hn2), if_pos rfl]
  · refine ⟨-1, l, hl, fun M h ha _ hx => ⟨M, ?_, Fq.rf, hx⟩, fun M h ha _ hx => ⟨M.si 72 13 0, ?_, f13, ly13 hx⟩⟩
    · unfold x_differ
      rw [bde (xn_word h hn), if_pos rfl]
    · unfold m_differ
      rw [lt_u, bde (mn_word (h.fy f13) hn), if_pos rfl]
/-! near -/
def nrd (C : SV) (w o : Nat) : Int32 := if o = w then 1000000000 else edd C w o false
def nrS (C : SV) (w k : Nat) : Int32 × Int32 := itr (fun o s => (if s.2 ≤ nrd C w o then s.1 else zn o, imin s.2 (nrd C w o))) k (-2, 1000000000)
theorem nrS_s (C : SV) (w k : Nat) : nrS C w (k + 1) = (if (nrS C w k).2 ≤ nrd C w k then (nrS C w k).1 else zn k, imin (nrS C w k).2 (nrd C w k)) := rfl
theorem nr_or (h : OKC C) {w : Nat} (hw : w < C.nw) : ∀ k, k ≤ C.nw → (nrS C w k = (-2, 1000000000) ∧ ∀ o, o < k → o = w) ∨ ∃ b, b < k ∧ b ≠ w ∧ nrS C w k = (zn b, edd C w b false) := by
  have b1 := h.nw10
  intro k
  induction k with
  | zero => intro _; exact Or.inl ⟨rfl, fun o q => absurd q (Nat.not_lt_zero o)⟩
  | succ k ih =>
    intro hk
    rw [nrS_s]
    by_cases e : k = w
    · have ed : nrd C w k = 1000000000 := if_pos e
      rw [ed]
      rcases ih (by omega) with ⟨i1, i2⟩ | ⟨b, i1, i2, i3⟩
      · refine Or.inl ⟨?_, fun o ho => ?_⟩
        · rw [i1]
          show (if (1000000000 : Int32) ≤ 1000000000 then (-2 : Int32) else zn k, imin 1000000000 1000000000) = _
          rw [if_pos (by decide), show imin 1000000000 1000000000 = (1000000000 : Int32) from by decide]
        rcases Nat.lt_or_eq_of_le (Nat.le_of_lt_succ ho) with q | q
        · exact i2 o q
        · rw [q]; exact e
      · obtain ⟨x, x1, x2⟩ := edd_b h hw (show b < C.nw by omega) false
        refine Or.inr ⟨b, by omega, i2, ?_⟩
        rw [i3, x2]
        show (if zn x ≤ 1000000000 then zn b else zn k, imin (zn x) (zn 1000000000)) = _
        rw [if_pos (by rw [zn_le_l (by omega) (by omega)]; omega), imin_zn (by omega) (by omega), Nat.min_eq_left (by omega)]
    · have ed : nrd C w k = edd C w k false := if_neg e
      obtain ⟨y, y1, y2⟩ := edd_b h hw (show k < C.nw by omega) false
      rw [ed]
      rcases ih (by omega) with ⟨i1, i2⟩ | ⟨b, i1, i2, i3⟩
      · refine Or.inr ⟨k, by omega, e, ?_⟩
        rw [i1, y2]
        show (if 1000000000 ≤ zn y then (-2 : Int32) else zn k, imin (zn 1000000000) (zn y)) = _
        rw [if_neg (by rw [l_le_zn (by omega) (by omega)]; omega), imin_zn (by omega) (by omega), Nat.min_eq_right (by omega)]
      · obtain ⟨x, x1, x2⟩ := edd_b h hw (show b < C.nw by omega) false
        rw [i3]
        by_cases g : x ≤ y
        · refine Or.inr ⟨b, by omega, i2, ?_⟩
          show (if edd C w b false ≤ edd C w k false then zn b else zn k, imin (edd C w b false) (edd C w k false)) = _
          rw [x2, y2, if_pos (by rw [zn_le (by omega) (by omega)]; exact g), imin_zn (by omega) (by omega), Nat.min_eq_left g]
        · refine Or.inr ⟨k, by omega, e, ?_⟩
          show (if edd C w b false ≤ edd C w k false then zn b else zn k, imin (edd C w b false) (edd C w k false)) = _
          rw [x2, y2, if_neg (by rw [zn_le (by omega) (by omega)]; exact g), imin_zn (by omega) (by omega), Nat.min_eq_right (by omega)]
def shr (C : SV) (w b : Nat) : Int64 := if mns C b (zn (C.mn w)) then 1 else if C.sc w = -1 then 0 else if mns C b (C.sc w) then 1 else 0
theorem xs_nearLoop (h : CX C M) {w : Nat} (hw : w < C.nw) (Kc : Int32 → Int32 → PM → Option (Int32 × PM)) : ∃ M', x_near_L20 (zn w) Kc FU (-2) 1000000000 0 M = Kc (nrS C w C.nw).1 (nrS C w C.nw).2 M' ∧ Fq ca M M' := by
  have b1 := h.ok.nw10
  refine wlp (fun n k (_ : Unit) M2 => x_near_L20 (zn w) Kc n (nrS C w k).1 (nrS C w k).2 (zn k) M2) C.nw FU (FU_lt (by omega)) (fun _ s => s) () (fun _ M2 => Fq ca M M2) (fun o => ∃ M', o = Kc (nrS C w C.nw).1 (nrS C w C.nw).2 M' ∧ Fq ca M M') (fun n k M2 hk f => ?_) (fun n M2 f => ?_) M Fq.rf
  · have h2 := h.fa f
    show ∃ M', _ ∧ x_near_L20 (zn w) Kc (n + 1) (nrS C w k).1 (nrS C w k).2 (zn k) M2 = x_near_L20 (zn w) Kc n (nrS C w (k + 1)).1 (nrS C w (k + 1)).2 (zn (k + 1)) M'
    rw [nrS_s]
    by_cases e : k = w
    · have ed : nrd C w k = 1000000000 := if_pos e
      refine ⟨M2, f, ?_⟩
      (rw [x_near_L20, h2.nw, if_neg (by rw [zn_le (by omega) (by omega)]; omega)]; (try simp only [jn_u]); rw [if_pos (by rw [e]), lt_u, lt_u, lt_u, zn_addl, ed])
    · have ed : nrd C w k = edd C w k false := if_neg e
      obtain ⟨M3, e3, f3⟩ := xs_changesOf h2 hw hk false
      have e3' : x_changesOf (zn w) (zn k) 0 M2 = _ := e3
      refine ⟨M3, f.tr f3, ?_⟩
      (rw [x_near_L20, h2.nw, if_neg (by rw [zn_le (by omega) (by omega)]; omega)]; (try simp only [jn_u]); rw [if_neg (by rw [zn_eq (by omega) (by omega)]; exact e), bde e3', lt_u, lt_u, lt_u, zn_addl, ed])
  · have h2 := h.fa f
    refine ⟨M2, ?_, f⟩
    show x_near_L20 (zn w) Kc (n + 1) _ _ (zn C.nw) M2 = _
    rw [x_near_L20, h2.nw, if_pos (Int32.le_refl _)]
theorem ms_nearLoop (h : CY 83 C M) {w : Nat} (hw : w < C.nw) (Kc : Int32 → PM → Option (Int32 × PM)) : ∃ M', m_near_L19 (zn w) Kc FU (-1) 0 M = Kc (if (nrS C w C.nw).1 = -2 then -1 else (nrS C w C.nw).1) M' ∧ Fq ca M M' := by
  have b1 := h.ok.nw10
  have n2 : ∀ b : Nat, b < 2147483648 → ¬ zn b = (-2 : Int32) := by
    intro b hb w
    have := congrArg Int32.toInt w
    rw [zn_int hb, show ((-2 : Int32).toInt) = -2 from by decide] at this
    omega
  refine wlp (fun n k (_ : Unit) M2 => m_near_L19 (zn w) Kc n (if (nrS C w k).1 = -2 then -1 else (nrS C w k).1) (zn k) M2) C.nw FU (FU_lt (by omega)) (fun _ s => s) () (fun _ M2 => Fq ca M M2) (fun o => ∃ M', o = Kc (if (nrS C w C.nw).1 = -2 then -1 else (nrS C w C.nw).1) M' ∧ Fq ca M M') (fun n k M2 hk f => ?_) (fun n M2 f => ?_) M Fq.rf
  · have h2 := h.fa f
    show ∃ M', _ ∧ m_near_L19 (zn w) Kc (n + 1) (if (nrS C w k).1 = -2 then -1 else (nrS C w k).1) (zn k) M2 = m_near_L19 (zn w) Kc n (if (nrS C w (k + 1)).1 = -2 then -1 else (nrS C w (k + 1)).1) (zn (k + 1)) M'
    by_cases e : k = w
    · have es : (nrS C w (k + 1)).1 = (nrS C w k).1 := by
        have ed : nrd C w k = 1000000000 := if_pos e
        rw [nrS_s, ed]
        show (if (nrS C w k).2 ≤ 1000000000 then (nrS C w k).1 else zn k) = _
        rcases nr_or h.ok hw k (by omega) with ⟨i1, i2⟩ | ⟨b, i1, i2, i3⟩
        · rw [i1, if_pos (by decide)]
        · obtain ⟨x, x1, x2⟩ := edd_b h.ok hw (show b < C.nw by omega) false
          rw [i3]
          show (if edd C w b false ≤ 1000000000 then zn b else zn k) = zn b
          rw [x2, if_pos (by rw [zn_le_l (by omega) (by omega)]; omega)]
      refine ⟨M2, f, ?_⟩
      (rw [es, m_near_L19, h2.nw, if_neg (by rw [zn_le (by omega) (by omega)]; omega)]; (try simp only [jn_u]); rw [if_pos (by rw [e]), lt_u, zn_addl])
    · have ed : nrd C w k = edd C w k false := if_neg e
      obtain ⟨y, y1, y2⟩ := edd_b h.ok hw hk false
      rw [nrS_s, ed]
      rcases nr_or h.ok hw k (by omega) with ⟨i1, i2⟩ | ⟨b, i1, i2, i3⟩
      · refine ⟨M2, f, ?_⟩
        rw [i1]
        show m_near_L19 (zn w) Kc (n + 1) (if (-2 : Int32) = -2 then -1 else -2) (zn k) M2 = m_near_L19 (zn w) Kc n (if (if 1000000000 ≤ edd C w k false then (-2 : Int32) else zn k) = -2 then -1 else (if 1000000000 ≤ edd C w k false then (-2 : Int32) else zn k)) (zn (k + 1)) M2
        (rw [y2, if_pos rfl, if_neg (show ¬ (1000000000 : Int32) ≤ zn y from by rw [l_le_zn (by omega) (by omega)]; omega), if_neg (n2 k (by omega)), m_near_L19, h2.nw, if_neg (by rw [zn_le (by omega) (by omega)]; omega)]; (try simp only [jn_u]); rw [if_neg (by rw [zn_eq (by omega) (by omega)]; exact e), if_pos (by trivial), lt_u, zn_addl])
      · obtain ⟨x, x1, x2⟩ := edd_b h.ok hw (show b < C.nw by omega) false
        obtain ⟨M3, e3, f3⟩ := ms_differBy h2 hw hk false
        have e3' : m_differBy (zn w) (zn k) 0 M2 = some (zn y, M3) := by rw [← y2]; exact e3
        obtain ⟨M4, e4, f4⟩ := ms_differBy (h2.fa f3) hw (show b < C.nw by omega) false
        have e4' : m_differBy (zn w) (zn b) 0 M3 = some (zn x, M4) := by rw [← x2]; exact e4
        refine ⟨M4, (f.tr f3).tr f4, ?_⟩
        rw [i3]
        show m_near_L19 (zn w) Kc (n + 1) (if zn b = -2 then -1 else zn b) (zn k) M2 = m_near_L19 (zn w) Kc n (if (if edd C w b false ≤ edd C w k false then zn b else zn k) = -2 then -1 else (if edd C w b false ≤ edd C w k false then zn b else zn k)) (zn (k + 1)) M4
        (rw [x2, y2, if_neg (n2 b (by omega)), m_near_L19, h2.nw, if_neg (by rw [zn_le (by omega) (by omega)]; omega)]; (try simp only [jn_u]); rw [if_neg (by rw [zn_eq (by omega) (by omega)]; exact e), if_neg (by rw [zn_eq_m (by omega)]; exact id), bde e3', bde e4'])
        by_cases g : zn x ≤ zn y
        · rw [if_pos g, if_pos g, if_neg (n2 b (by omega)), lt_u, zn_addl]
        · rw [if_neg g, if_neg g, if_neg (n2 k (by omega)), lt_u, zn_addl]
  · have h2 := h.fa f
    refine ⟨M2, ?_, f⟩
    show m_near_L19 (zn w) Kc (n + 1) _ (zn C.nw) M2 = _
    rw [m_near_L19, h2.nw, if_pos (Int32.le_refl _)]
theorem xq_nearN {w : Nat} (hw : w < C.nw) (hn : nrS C w C.nw = (-2, 1000000000)) : QX C A l l (-2) (x_near (zn w)) := by
  intro M h ha _ hl
  obtain ⟨M1, e1, f1⟩ := xs_nearLoop h hw (fun (v10 : Int32) (v11 : Int32) (M5 : PM) => if 0 ≤ v10 then (lt (M5.si 20 67 0) fun M6 => bd (x_tells (Int32.toInt64 v11) M6) fun _ M7 => ck (zn w) 10 <| bd (x_means v10 (M7.i 33 (ix (zn w))) M7) fun v12 M8 => jn (fun (w1 : Int64) (M9 : PM) => bd (x_tells w1 M9) fun _ M10 => some (v10, M10)) fun j3 => if v12 = 0 then (ck (zn w) 10 <| if (M8.i 34 (ix (zn w))) < 0 then (j3 0 M8) else (ck (zn w) 10 <| bd (x_means v10 (M8.i 34 (ix (zn w))) M8) fun v13 M11 => if v13 = 0 then (j3 0 M11) else (j3 1 M11))) else (j3 1 M8)) else (some ((-2), M5)))
  refine ⟨M1, ?_, f1.x, hl.fa f1⟩
  unfold x_near
  rw [bde (xt_word h hw), if_neg (by decide)]
  refine e1.trans ?_
  rw [hn]
  rfl
theorem xq_near {w b : Nat} (hw : w < C.nw) (hb : b < C.nw) (hn : nrS C w C.nw = (zn b, edd C w b false)) : QX C A l [(edd C w b false).toInt64, shr C w b] (zn b) (x_near (zn w)) := by
  intro M h ha _ hl
  have b1 := h.ok.nw10
  obtain ⟨M1, e1, f1⟩ := xs_nearLoop h hw (fun (v10 : Int32) (v11 : Int32) (M5 : PM) => if 0 ≤ v10 then (lt (M5.si 20 67 0) fun M6 => bd (x_tells (Int32.toInt64 v11) M6) fun _ M7 => ck (zn w) 10 <| bd (x_means v10 (M7.i 33 (ix (zn w))) M7) fun v12 M8 => jn (fun (w1 : Int64) (M9 : PM) => bd (x_tells w1 M9) fun _ M10 => some (v10, M10)) fun j3 => if v12 = 0 then (ck (zn w) 10 <| if (M8.i 34 (ix (zn w))) < 0 then (j3 0 M8) else (ck (zn w) 10 <| bd (x_means v10 (M8.i 34 (ix (zn w))) M8) fun v13 M11 => if v13 = 0 then (j3 0 M11) else (j3 1 M11))) else (j3 1 M8)) else (some ((-2), M5)))
  obtain ⟨M2, e2, f2, l2⟩ := xs_tell0 M1 ((edd C w b false).toInt64)
  have h2 := (h.fx f1.x).fx f2.wx
  obtain ⟨M3, e3, f3, l3⟩ := xs_tell1 l2 (shr C w b)
  refine ⟨M3, ?_, (f1.x.tr f2.wx).tr f3.wx, l3⟩
  unfold x_near
  rw [bde (xt_word h hw), if_neg (by decide)]
  refine e1.trans ?_
  rw [hn]
  show (if (0 : Int32) ≤ zn b then _ else _) = _
  (rw [if_pos (zn_nonneg (by omega)), lt_u, bde e2, ck_zn (by omega) (by omega), ix_zn (by omega), h2.mn w hw, bde (xs_means h2 hb _)]; (try simp only [jn_u]))
  unfold shr at e3
  by_cases c1 : mns C b (zn (C.mn w))
  · rw [if_pos c1] at e3
    rw [if_pos c1, if_neg (by decide), bde e3]
  · rw [if_neg c1] at e3
    rw [if_neg c1, if_pos rfl, ck_zn (by omega) (by omega), h2.sc w hw]
    rcases h.ok.scd w hw with q | ⟨d, hd, q⟩
    · rw [if_pos q] at e3
      rw [q, if_pos (by decide), bde e3]
    · rw [if_neg (by rw [q, zn_eq_m (by omega)]; exact id)] at e3
      rw [if_neg (by rw [q]; exact Int32.not_lt.mpr (zn_nonneg (by omega))), ck_zn (by omega) (by omega), bde (xs_means h2 hb _)]
      by_cases c2 : mns C b (C.sc w)
      · rw [if_pos c2] at e3
        rw [if_pos c2, if_neg (by decide), bde e3]
      · rw [if_neg c2] at e3
        rw [if_neg c2, if_pos rfl, bde e3]
theorem ms_share (h : CY 83 C M) {w b : Nat} (hw : w < C.nw) (hb : b < C.nw) : m_share (zn w) (zn b) M = some (if shr C w b = 0 then 0 else 1, M) := by
  have b1 := h.ok.nw10
  unfold m_share shr
  rw [zn_mull, ck_zn (by omega) (by omega), ix_zn (by omega), h.mn w hw, bde (ms_means h hb _)]
  by_cases c1 : mns C b (zn (C.mn w))
  · rw [if_pos c1, if_neg (by decide), if_pos c1]
    rfl
  · rw [if_neg c1, if_pos rfl, if_neg c1, zn_addl, ck_zn (by omega) (by omega), ix_zn (by omega), h.sc w hw]
    by_cases c3 : C.sc w = -1
    · rw [if_pos c3, if_pos c3]
      rfl
    · rw [if_neg c3, if_neg c3, ck_zn (by omega) (by omega), bde (ms_means h hb _)]
      by_cases c2 : mns C b (C.sc w)
      · rw [if_pos c2, if_neg (by decide), if_pos c2]
        rfl
      · rw [if_neg c2, if_pos rfl, if_neg c2]
        rfl
theorem yq_nearN {w : Nat} (hw : w < C.nw) (hn : nrS C w C.nw = (-2, 1000000000)) : QY C A l l (-2) (m_near (zn w)) := by
  intro M h ha _ hl
  have h' := h.fy (f13 (M := M))
  unfold m_near
  rw [lt_u, bde (mt_word h' hw), if_neg (by decide)]
  obtain ⟨M1, e1, f1⟩ := ms_nearLoop h' hw (fun (v8 : Int32) (M8 : PM) => if v8 = (-1) then (some ((-2), M8)) else (lt (M8.si 72 12 0) fun M9 => bd (m_differBy (zn w) v8 0 M9) fun v9 M10 => bd (m_tell (Int32.toInt64 v9) M10) fun _ M11 => bd (m_share (zn w) v8 M11) fun v10 M12 => jn (fun (w1 : Int64) (M13 : PM) => bd (m_tell w1 M13) fun _ M14 => some (v8, M14)) fun j3 => if v10 = 0 then (j3 0 M12) else (j3 1 M12)))
  refine ⟨M1, ?_, f13.tr f1.y, (ly13 hl).fa f1⟩
  refine e1.trans ?_
  rw [hn]
  rfl
theorem yq_near {w b : Nat} (hw : w < C.nw) (hb : b < C.nw) (hn : nrS C w C.nw = (zn b, edd C w b false)) : QY C A l [(edd C w b false).toInt64, shr C w b] (zn b) (m_near (zn w)) := by
  intro M h ha _ hl
  have b1 := h.ok.nw10
  have h' := h.fy (f13 (M := M))
  unfold m_near
  rw [lt_u, bde (mt_word h' hw), if_neg (by decide)]
  obtain ⟨M1, e1, f1⟩ := ms_nearLoop h' hw (fun (v8 : Int32) (M8 : PM) => if v8 = (-1) then (some ((-2), M8)) else (lt (M8.si 72 12 0) fun M9 => bd (m_differBy (zn w) v8 0 M9) fun v9 M10 => bd (m_tell (Int32.toInt64 v9) M10) fun _ M11 => bd (m_share (zn w) v8 M11) fun v10 M12 => jn (fun (w1 : Int64) (M13 : PM) => bd (m_tell w1 M13) fun _ M14 => some (v8, M14)) fun j3 => if v10 = 0 then (j3 0 M12) else (j3 1 M12)))
  have h1 := h'.fa f1
  obtain ⟨M2, e2, f2⟩ := ms_differBy (h1.fy (f12 (M := M1))) hw hb false
  have e2' : m_differBy (zn w) (zn b) 0 (M1.si 72 12 0) = _ := e2
  obtain ⟨M3, e3, f3, l3⟩ := ms_tell (LY.fa (ly0 M1) f2) (by show 0 < 20; omega) ((edd C w b false).toInt64)
  have h3 := ((h1.fy (f12 (M := M1))).fa f2).fy f3.wy
  obtain ⟨M4, e4, f4, l4⟩ := ms_tell1 l3 (shr C w b)
  refine ⟨M4, ?_, ((((f13.tr f1.y).tr f12).tr f2.y).tr f3.wy).tr f4.wy, l4⟩
  refine e1.trans ?_
  rw [hn]
  have n2 : ¬ zn b = (-2 : Int32) := by
    intro w
    have := congrArg Int32.toInt w
    rw [zn_int (by omega), show ((-2 : Int32).toInt) = -2 from by decide] at this
    omega
  show (if (if zn b = -2 then -1 else zn b) = (-1 : Int32) then _ else _) = _
  (rw [if_neg n2, if_neg (by rw [zn_eq_m (by omega)]; exact id), lt_u, bde e2', bde e3, bde (ms_share h3 hw hb)]; (try simp only [jn_u]))
  have hz : shr C w b = 0 ∨ shr C w b = 1 := by
    unfold shr
    repeat' split
    all_goals first | exact Or.inl rfl | exact Or.inr rfl
  rcases hz with hz | hz
  · rw [hz] at e4
    rw [hz, if_pos rfl, if_pos rfl, bde e4]
  · rw [hz] at e4
    rw [hz, if_neg (by decide), bde e4]
theorem call_near (p : Int32) : Call (x_near p) (m_near p) := by
  refine Call.of (fun C A l hC hA hl => ?_)
  have b1 := hC.nw10
  rcases dm_or (show C.nw < 2147483648 by omega) p with ⟨w, hw, rfl⟩ | hn
  · rcases nr_or hC hw C.nw (Nat.le_refl _) with ⟨i1, i2⟩ | ⟨b, i1, i2, i3⟩
    · exact ⟨_, _, hl, xq_nearN hw i1, yq_nearN hw i1⟩
    · exact ⟨_, _, two15 _ _, xq_near hw i1 i3, yq_near hw i1 i3⟩
  · refine ⟨-1, l, hl, fun M h ha _ hx => ⟨M, ?_, Fq.rf, hx⟩, fun M h ha _ hx => ⟨M.si 72 13 0, ?_, f13, ly13 hx⟩⟩
    · unfold x_near
      rw [bde (xn_word h hn), if_pos rfl]
    · unfold m_near
      rw [lt_u, bde (mn_word (h.fy f13) hn), if_pos rfl]
end
