set_option maxRecDepth 100000
/-! JOURNEYS: an act is done -/
def hourA (A : Nat → Int32) (v : Nat) : Nat → Int32 := fun j => if j = 12 then A 12 + zn v else A j
def wwJ (C : SV) (A : Nat → Int32) (d : DJ) : Option Nat := if d.1 = 33 then (if wdf C (A 12) (A 13) (zn d.2) (A d.2) = -1 then none else some (ix (wdf C (A 12) (A 13) (zn d.2) (A d.2)))) else (if d.1 - 48 < C.nw then some (d.1 - 48) else none)
def swJ (C : SV) (A : Nat → Int32) (t : Nat) (o : Option Nat) : Option ((Nat → Int32) × Int32) := match o with
  | none => none
  | some w => if tol C w (A t) (A 12) ≤ A (4 + t) then some (sayA C A t w (ix (A t)), tol C w (A t) (A 12)) else none
def wyJ (c : Nat) : Nat := if c = 62 then 1 else 0
def actJ (C : SV) (A : Nat → Int32) (d : DJ) : Option ((Nat → Int32) × Int32) :=
  if d.1 = 119 then some (hourA A d.2, 0)
  else if d.2 < C.nt then
    (if d.1 = 60 ∨ d.1 = 62 then (if 0 ≤ A d.2 + (if wyJ d.1 = 1 then 1 else -1) ∧ A d.2 + (if wyJ d.1 = 1 then 1 else -1) ≤ zn C.ns - 1 then some (wlkA A d.2 (A d.2 + (if wyJ d.1 = 1 then 1 else -1)), 0) else none)
     else swJ C A d.2 (wwJ C A d))
  else none
abbrev jxc (o j : Nat) : Prop := sxc 21 o j ∨ (o = 20 ∧ j = 48)
abbrev jyc (o j : Nat) : Prop := syc 73 o j ∨ (o = 72 ∧ j = 33)
section
variable {C : SV} {A : Nat → Int32} {M M1 : PM} {k : Nat} {d : DJ}
theorem ww_lt (hC : OKC C) {w : Nat} (h : wwJ C A d = some w) : w < C.nw := by
  unfold wwJ at h
  have := hC.nw10
  by_cases g : d.1 = 33
  · rw [if_pos g] at h
    rcases wdf_or hC (A 12) (A 13) (zn d.2) (A d.2) with e | ⟨b, e1, e2⟩
    · rw [if_pos e] at h; cases h
    · rw [if_neg (by rw [e2, zn_eq_m (by omega)]; exact id), e2, ix_zn (by omega)] at h
      cases h; exact e1
  · rw [if_neg g] at h
    by_cases g2 : d.1 - 48 < C.nw
    · rw [if_pos g2] at h; cases h; exact g2
    · rw [if_neg g2] at h; cases h
theorem ok_act (h : OKA C A) (hC : OKC C) {A' : Nat → Int32} {t : Int32} (ha : actJ C A d = some (A', t)) : OKA C A' := by
  have b1 := hC.nt4
  have b2 := hC.ns6
  unfold actJ at ha
  by_cases g1 : d.1 = 119
  · rw [if_pos g1] at ha
    cases ha
    refine ⟨fun u hu => ?_, ?_, fun u hu => ?_⟩
    · unfold hourA; rw [if_neg (by omega)]; exact h.1 u hu
    · unfold hourA; rw [if_neg (by omega)]; exact h.2.1
    · unfold hourA; rw [if_neg (by omega)]; exact h.2.2 u hu
  · rw [if_neg g1] at ha
    by_cases g2 : d.2 < C.nt
    · rw [if_pos g2] at ha
      by_cases g3 : d.1 = 60 ∨ d.1 = 62
      · rw [if_pos g3] at ha
        by_cases g4 : 0 ≤ A d.2 + (if wyJ d.1 = 1 then 1 else -1) ∧ A d.2 + (if wyJ d.1 = 1 then 1 else -1) ≤ zn C.ns - 1
        · rw [if_pos g4] at ha
          rcases dm_or (show C.ns < 2147483648 by omega) (A d.2 + (if wyJ d.1 = 1 then 1 else -1)) with ⟨s, hs, es⟩ | w
          · rw [es] at ha
            cases ha
            exact ok_wlk h hC g2 hs
          · exact absurd g4 w
        · rw [if_neg g4] at ha; cases ha
      · rw [if_neg g3] at ha
        rcases hw : wwJ C A d with _ | w
        · rw [hw] at ha; cases ha
        · rw [hw] at ha
          have ha' : (if tol C w (A d.2) (A 12) ≤ A (4 + d.2) then some (sayA C A d.2 w (ix (A d.2)), tol C w (A d.2) (A 12)) else none) = some (A', t) := ha
          by_cases g4 : tol C w (A d.2) (A 12) ≤ A (4 + d.2)
          · rw [if_pos g4] at ha'
            cases ha'
            exact ok_say h hC g2 (ww_lt hC hw) g4
          · rw [if_neg g4] at ha'; cases ha'
    · rw [if_neg g2] at ha; cases ha
theorem f48 (v : Int32) : Fq jxc M (M.si 20 48 v) := Fq.si (c := jxc) Fq.rf (Or.inr ⟨rfl, rfl⟩)
theorem xp_neg {v : Int32} (hv : v = -1 ∨ v = -2) (M : PM) : x_paid v M = some (0, M.si 20 48 (M.i 20 48)) := by
  have e : imax 0 v = 0 := by rcases hv with e | e <;> (subst e; decide)
  unfold x_paid
  rw [e, Int32.add_zero, lt_u, if_pos (by rcases hv with e | e <;> (subst e; decide))]
theorem xs_sayJ (h : CX C M) (hv : RvX 21 A M) (ok : OKA C A) {t w : Nat} (ht : t < C.nt) (hw : w < C.nw) :
    (tol C w (A t) (A 12) ≤ A (4 + t) → ∃ M3 M4 v, x_says 21 (zn t) (zn w) M = some (v, M3) ∧ x_paid v M3 = some (1, M4) ∧ Fq jxc M M4 ∧ RvX 21 (sayA C A t w (ix (A t))) M4 ∧ M4.i 20 48 = M.i 20 48 + tol C w (A t) (A 12)) ∧
    (¬ tol C w (A t) (A 12) ≤ A (4 + t) → ∃ M3 M4 v, x_says 21 (zn t) (zn w) M = some (v, M3) ∧ x_paid v M3 = some (0, M4) ∧ Fq jxc M M4 ∧ RvX 21 A M4 ∧ M4.i 20 48 = M.i 20 48) := by
  obtain ⟨s, hs, hA⟩ := ok.1 t ht
  have b2 := h.ok.ns6
  obtain ⟨wn, wy⟩ := xs_says h (Or.inl rfl) (RdS.of21 h.sh) hv ht hw hA hs
  have es : ix (A t) = s := by rw [hA, ix_zn (by omega)]
  refine ⟨fun g => ?_, fun g => ?_⟩
  · obtain ⟨M3, e3, f3, v3, -⟩ := wy g
    obtain ⟨n, hn, en⟩ := tol_b h.ok hw (A t) (A 12)
    have i48 : M3.i 20 48 = M.i 20 48 := f3.i _ _ (by unfold sxc ca rdc; omega)
    have f4 : Fq (fun o j => o = 20 ∧ j = 48) M3 (M3.si 20 48 (M.i 20 48 + tol C w (A t) (A 12))) := Fq.si (c := fun o j => o = 20 ∧ j = 48) Fq.rf ⟨rfl, rfl⟩
    refine ⟨M3, M3.si 20 48 (M.i 20 48 + tol C w (A t) (A 12)), _, e3, ?_, (f3.mo (d := jxc) (fun o j q => Or.inl q)).tr (f4.mo (d := jxc) (fun o j q => Or.inr q)), ?_, by rw [si_i, if_pos ⟨rfl, rfl⟩]⟩
    · have em : imax 0 (tol C w (A t) (A 12)) = tol C w (A t) (A 12) := by
        rw [en, show (0 : Int32) = zn 0 from rfl, imax_zn (by omega) (by omega), Nat.zero_max]
      unfold x_paid
      rw [em, i48, lt_u, if_neg (by rw [en]; exact Int32.not_lt.mpr (zn_nonneg (by omega)))]
    · rw [es]
      exact v3.fr f4 (fun o j q => by unfold rdc at q; omega)
  · obtain ⟨M3, e3, f3⟩ := wn g
    have i48 : M3.i 20 48 = M.i 20 48 := f3.i _ _ (by unfold ca; omega)
    refine ⟨M3, _, _, e3, xp_neg (Or.inr rfl) M3, (f3.mo (d := jxc) (fun o j q => Or.inl (Or.inl q))).tr (f48 _), (hv.fa f3).fr (Fq.si (c := fun o j => o = 20 ∧ j = 48) Fq.rf ⟨rfl, rfl⟩) (fun o j q => by unfold rdc at q; omega), ?_⟩
    rw [si_i, if_pos ⟨rfl, rfl⟩]; exact i48
theorem xs_sayJn (h : CX C M) (hv : RvX 21 A M) (p q : Int32) (hn : ¬ (0 ≤ p ∧ p ≤ zn C.nt - 1) ∨ ¬ (0 ≤ q ∧ q ≤ zn C.nw - 1)) : ∃ M3 M4 v, x_says 21 p q M = some (v, M3) ∧ x_paid v M3 = some (0, M4) ∧ Fq jxc M M4 ∧ RvX 21 A M4 ∧ M4.i 20 48 = M.i 20 48 :=
  ⟨M, _, _, xs_saysN h p q hn, xp_neg (Or.inl rfl) M, f48 _, hv.fr (Fq.si (c := fun o j => o = 20 ∧ j = 48) Fq.rf ⟨rfl, rfl⟩) (fun o j q => by unfold rdc at q; omega), by rw [si_i, if_pos ⟨rfl, rfl⟩]⟩
theorem xs_does (h : CX C M) (hv : RvX 21 A M) (ok : OKA C A) (hd : okJ d) (hk : k < 40) (h57 : M.i 57 k = zn d.1) (h58 : M.i 58 k = zn d.2) :
    (∀ A' t, actJ C A d = some (A', t) → ∃ M', x_does (zn k) M = some (1, M') ∧ Fq jxc M M' ∧ RvX 21 A' M' ∧ M'.i 20 48 = M.i 20 48 + t) ∧
    (actJ C A d = none → ∃ M', x_does (zn k) M = some (0, M') ∧ Fq jxc M M' ∧ RvX 21 A M' ∧ M'.i 20 48 = M.i 20 48) := by
  obtain ⟨c, v⟩ := d
  have b1 := h.ok.nt4
  have b2 := h.ok.ns6
  have b3 := h.ok.nw10
  have hc : c < 120 ∧ v ≤ 99 := by
    rcases hd with w | w
    · have := w.1; have h2 : v ≤ 99 := w.2; exact ⟨by have : c = 119 := this; omega, h2⟩
    · have h1 := isj_lt w.1
      have h2 : v ≤ 3 := w.2
      exact ⟨by have : c < 63 := h1.1; omega, by omega⟩
  have h57' : M.i 57 k = zn c := h57
  have h58' : M.i 58 k = zn v := h58
  have n33 : (zn c = 33) = (c = 33) := zn_eq_l (by omega) (by omega)
  have n60 : (zn c = 60) = (c = 60) := zn_eq_l (by omega) (by omega)
  have n62 : (zn c = 62) = (c = 62) := zn_eq_l (by omega) (by omega)
  have n119 : (zn c = 119) = (c = 119) := zn_eq_l (by omega) (by omega)
  have hun : x_does (zn k) M = if c = 33 then (bd (x_isTraveller (zn v) M) fun v2 M1 => if v2 = 0 then (some (0, M1)) else (bd (x_wordFor (zn v) M1) fun v6 M5 => if v6 < 0 then (some (0, M5)) else (bd (x_says 21 (zn v) v6 M5) fun v4 M3 => bd (x_paid v4 M3) fun v5 M4 => if v5 = 0 then (some (0, M4)) else (some (1, M4))))) else if c = 60 then (bd (x_walks 21 (zn v) 0 M) fun v7 M6 => if v7 < 0 then (some (0, M6)) else (some (1, M6))) else if c = 62 then (bd (x_walks 21 (zn v) 1 M) fun v8 M7 => if v8 < 0 then (some (0, M7)) else (some (1, M7))) else if c = 119 then (some (1, M.si 21 4 ((M.i 21 4) + zn v))) else (bd (x_says 21 (zn v) ((zn c) - 48) M) fun v9 M9 => bd (x_paid v9 M9) fun v10 M10 => ckb (v10 = 0 ∨ v10 = 1) <| some (v10, M10)) := by
    unfold x_does
    simp only [jn_u, lt_u]
    rw [ck_zn (by omega) (by omega), ck_zn (by omega) (by omega), ix_zn (by omega), h57', h58']
    simp only [n33, n60, n62, n119]
    rw [ck_zn (by omega) (by omega)]
    simp only [show ((-1 : Int32) < 0) = True from eq_true (by decide), ↓reduceIte]
  rw [hun]
  unfold actJ
  simp only
  by_cases g1 : c = 119
  · subst g1
    rw [if_pos rfl, if_neg (by omega), if_neg (by omega), if_neg (by omega), if_pos rfl]
    refine ⟨fun A' t e => ?_, fun e => by cases e⟩
    cases e
    obtain ⟨v1, v2, v3, v4⟩ := hv
    have f : Fq (fun o j => o = 21 ∧ j = 4) M (M.si 21 4 ((M.i 21 4) + zn v)) := Fq.si (c := fun o j => o = 21 ∧ j = 4) Fq.rf ⟨rfl, rfl⟩
    refine ⟨_, rfl, f.mo (d := jxc) (fun o j q => Or.inl (Or.inr (Or.inl (by unfold rdc; omega)))), ⟨fun u hu => ?_, ?_, ?_, fun x hx => ?_⟩, ?_⟩
    · obtain ⟨u1, u2, u3⟩ := v1 u hu
      unfold hourA
      rw [if_neg (by omega), if_neg (by omega), if_neg (by omega), f.i _ _ (by omega), f.i _ _ (by omega), f.i _ _ (by omega)]
      exact ⟨u1, u2, u3⟩
    · unfold hourA
      rw [si_i, if_pos ⟨rfl, rfl⟩, if_pos rfl, v2]
    · unfold hourA
      rw [f.i _ _ (by omega), if_neg (by omega)]; exact v3
    · unfold hourA
      rw [f.i _ _ (by omega), if_neg (by omega)]; exact v4 x hx
    · rw [f.i _ _ (by omega), Int32.add_zero]
  · have hj : isj c = true := by
      rcases hd with w | w
      · exact absurd w.1 g1
      · exact w.1
    have hv3 : v ≤ 3 := by
      rcases hd with w | w
      · exact absurd w.1 g1
      · exact w.2
    rw [if_neg g1]
    have hnot : ¬ v < C.nt → ¬ (0 ≤ zn v ∧ zn v ≤ zn C.nt - 1) := fun w => by rw [inTr (by omega) (by omega)]; exact w
    by_cases gw : c = 60 ∨ c = 62
    · have hwk : (if c = 33 then (bd (x_isTraveller (zn v) M) fun v2 M1 => if v2 = 0 then (some (0, M1)) else (bd (x_wordFor (zn v) M1) fun v6 M5 => if v6 < 0 then (some (0, M5)) else (bd (x_says 21 (zn v) v6 M5) fun v4 M3 => bd (x_paid v4 M3) fun v5 M4 => if v5 = 0 then (some (0, M4)) else (some (1, M4))))) else if c = 60 then (bd (x_walks 21 (zn v) 0 M) fun v7 M6 => if v7 < 0 then (some (0, M6)) else (some (1, M6))) else if c = 62 then (bd (x_walks 21 (zn v) 1 M) fun v8 M7 => if v8 < 0 then (some (0, M7)) else (some (1, M7))) else if c = 119 then (some (1, M.si 21 4 ((M.i 21 4) + zn v))) else (bd (x_says 21 (zn v) ((zn c) - 48) M) fun v9 M9 => bd (x_paid v9 M9) fun v10 M10 => ckb (v10 = 0 ∨ v10 = 1) <| some (v10, M10)) : Option (Int32 × PM)) = bd (x_walks 21 (zn v) (zn (wyJ c)) M) fun v7 M6 => if v7 < 0 then (some (0, M6)) else (some (1, M6)) := by
        rcases gw with e | e
        · subst e; rfl
        · subst e; rfl
      rw [hwk]
      have hy : wyJ c ≤ 1 := by unfold wyJ; split <;> omega
      by_cases g2 : v < C.nt
      · rw [if_pos g2, if_pos gw]
        obtain ⟨s, hs, hA⟩ := ok.1 v g2
        obtain ⟨wn, wy⟩ := xs_walks h (RdS.of21 h.sh) hv g2 hy hA hs
        rw [hA]
        by_cases g4 : 0 ≤ zn s + (if wyJ c = 1 then 1 else -1) ∧ zn s + (if wyJ c = 1 then 1 else -1) ≤ zn C.ns - 1
        · rw [if_pos g4]
          refine ⟨fun A' t e => ?_, fun e => by cases e⟩
          cases e
          obtain ⟨M2, e2, f2, w2⟩ := wy g4
          refine ⟨M2, ?_, f2.mo (d := jxc) (fun o j q => Or.inl (Or.inr (Or.inl q))), w2, by rw [f2.i _ _ (by unfold rdc; omega), Int32.add_zero]⟩
          rw [bde e2, if_neg (Int32.not_lt.mpr g4.1)]
        · rw [if_neg g4]
          refine ⟨fun A' t e => (by cases e), fun _ => ⟨M, ?_, Fq.rf, hv, rfl⟩⟩
          rw [bde (wn g4), if_pos (by decide)]
      · rw [if_neg g2]
        refine ⟨fun A' t e => (by cases e), fun _ => ⟨M, ?_, Fq.rf, hv, rfl⟩⟩
        rw [bde (xs_walksN h _ _ (Or.inl (hnot g2))), if_pos (by decide)]
    · have g60 : ¬ c = 60 := fun w => gw (Or.inl w)
      have g62 : ¬ c = 62 := fun w => gw (Or.inr w)
      by_cases g33 : c = 33
      · rw [if_pos g33]
        by_cases g2 : v < C.nt
        · rw [if_pos g2, if_neg gw]
          obtain ⟨M5, e5, f5⟩ := xs_wordFor h g2
          rw [hx12 hv, hx13 hv, (hv.1 v (by omega)).1] at e5
          have x5 := h.fa f5
          have v5 : RvX 21 A M5 := hv.fa f5
          have F5 : Fq jxc M M5 := f5.mo (d := jxc) (fun o j q => Or.inl (Or.inl q))
          have i48 : M5.i 20 48 = M.i 20 48 := f5.i _ _ (by unfold ca; omega)
          unfold wwJ
          simp only
          rw [if_pos g33, bde (xt_trav h g2), if_neg (show ¬ (1 : Int32) = 0 by decide), bde e5]
          rcases wdf_or h.ok (A 12) (A 13) (zn v) (A v) with e | ⟨w, hw, ew⟩
          · rw [if_pos e, e, if_pos (by decide)]
            exact ⟨fun A' t q => (by cases q), fun _ => ⟨M5, rfl, F5, v5, i48⟩⟩
          · rw [ew, if_neg (by rw [zn_eq_m (by omega)]; exact id), ix_zn (by omega), if_neg (Int32.not_lt.mpr (zn_nonneg (by omega)))]
            obtain ⟨s1, s2⟩ := xs_sayJ x5 v5 ok g2 hw
            unfold swJ
            simp only
            by_cases g4 : tol C w (A v) (A 12) ≤ A (4 + v)
            · rw [if_pos g4]
              obtain ⟨M3, M4, z, e3, e4, f4, w4, i4⟩ := s1 g4
              refine ⟨fun A' t q => ?_, fun q => by cases q⟩
              cases q
              refine ⟨M4, ?_, F5.tr f4, w4, by rw [i4, i48]⟩
              rw [bde e3, bde e4, if_neg (by decide)]
            · rw [if_neg g4]
              obtain ⟨M3, M4, z, e3, e4, f4, w4, i4⟩ := s2 g4
              refine ⟨fun A' t q => (by cases q), fun _ => ⟨M4, ?_, F5.tr f4, w4, by rw [i4, i48]⟩⟩
              rw [bde e3, bde e4, if_pos rfl]
        · rw [if_neg g2]
          refine ⟨fun A' t e => (by cases e), fun _ => ⟨M, ?_, Fq.rf, hv, rfl⟩⟩
          rw [bde (xn_trav h (hnot g2)), if_pos rfl]
      · have hcd : 48 ≤ c ∧ c ≤ 57 := by
          simp only [isj, isd, Bool.or_eq_true, Bool.and_eq_true, decide_eq_true_eq] at hj
          omega
        have esub : zn c - 48 = zn (c - 48) := zn_subl (n := 48) hcd.1
        rw [if_neg g33, if_neg g60, if_neg g62, if_neg g1, esub]
        have none_ : (∃ M3 M4 z, x_says 21 (zn v) (zn (c - 48)) M = some (z, M3) ∧ x_paid z M3 = some (0, M4) ∧ Fq jxc M M4 ∧ RvX 21 A M4 ∧ M4.i 20 48 = M.i 20 48) → ∃ M', (bd (x_says 21 (zn v) (zn (c - 48)) M) fun v9 M9 => bd (x_paid v9 M9) fun v10 M10 => ckb (v10 = 0 ∨ v10 = 1) <| some (v10, M10)) = some (0, M') ∧ Fq jxc M M' ∧ RvX 21 A M' ∧ M'.i 20 48 = M.i 20 48 := by
          rintro ⟨M3, M4, z, e3, e4, f4, w4, i4⟩
          refine ⟨M4, ?_, f4, w4, i4⟩
          rw [bde e3, bde e4, ckb_t (Or.inl rfl)]
        by_cases g2 : v < C.nt
        · rw [if_pos g2, if_neg gw]
          unfold wwJ
          simp only
          rw [if_neg g33]
          by_cases g5 : c - 48 < C.nw
          · rw [if_pos g5]
            obtain ⟨s1, s2⟩ := xs_sayJ h hv ok g2 g5
            unfold swJ
            simp only
            by_cases g4 : tol C (c - 48) (A v) (A 12) ≤ A (4 + v)
            · rw [if_pos g4]
              obtain ⟨M3, M4, z, e3, e4, f4, w4, i4⟩ := s1 g4
              refine ⟨fun A' t q => ?_, fun q => by cases q⟩
              cases q
              refine ⟨M4, ?_, f4, w4, i4⟩
              rw [bde e3, bde e4, ckb_t (Or.inr rfl)]
            · rw [if_neg g4]
              exact ⟨fun A' t q => (by cases q), fun _ => none_ (s2 g4)⟩
          · rw [if_neg g5]
            exact ⟨fun A' t q => (by cases q), fun _ => none_ (xs_sayJn h hv _ _ (Or.inr (by rw [inTr (by omega) (by omega)]; exact g5)))⟩
        · rw [if_neg g2]
          exact ⟨fun A' t e => (by cases e), fun _ => none_ (xs_sayJn h hv _ _ (Or.inl (hnot g2)))⟩
end
