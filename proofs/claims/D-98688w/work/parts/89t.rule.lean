set_option maxRecDepth 100000
/-! RULE, LAW: a rule is read -/
def okR (n : Nat) (b : Nat → Nat) : Prop := n = 0 ∨ ∃ D, prs b (min n 40) = (n, some D)
def dnr (n : Nat) (b : Nat → Nat) : Dn := match (prs b n).2 with
  | some D => D
  | none => fun _ => 0
def RuN (f n : Nat) (b : Nat → Nat) (M : PM) : Prop := (n = 0 ∧ M.r 20 f = none) ∨ (0 < n ∧ ∃ a, M.r 20 f = some a ∧ DenT M 100 a (dnr n b))
theorem prs_le (b : Nat → Nat) (e : Nat) : (prs b e).1 ≤ e := by
  have := pz_ge b e 100 0 0 0
  show (pz b e 100 0 0 0).1 ≤ e
  omega
theorem okR_40 {n : Nat} {b : Nat → Nat} (h : okR n b) : n ≤ 40 := by
  rcases h with h | ⟨D, h⟩
  · omega
  · have := prs_le b (min n 40)
    rw [h] at this
    have : n ≤ min n 40 := this
    omega
def SV.rul (C : SV) (n : Nat) (b : Nat → Nat) : SV := (C.1, C.2.1, C.2.2.1, n, b)
theorem rul_ok {C : SV} {n : Nat} {b : Nat → Nat} (h : OKC C) (hb : ∀ k, b k < 256) (hr : okR n b) : OKC (C.rul n b) := by
  obtain ⟨a1, a2, a3, a4, a5, a6, -⟩ := h
  refine ⟨a1, a2, a3, a4, a5, a6, okR_40 hr, hb, fun h0 => ?_⟩
  have h0' : 0 < n := h0
  have h4 := okR_40 hr
  rcases hr with h | ⟨D, h⟩
  · omega
  · rw [Nat.min_eq_left h4] at h
    exact ⟨D, h⟩
theorem rul_ru (C : SV) (n : Nat) (b : Nat → Nat) : (C.rul n b).ru = dnr n b := rfl
theorem dnr_e {n : Nat} {b : Nat → Nat} {D : Dn} (h : prs b (min n 40) = (n, some D)) : dnr n b = D := by
  have h4 := okR_40 (Or.inr ⟨D, h⟩)
  rw [Nat.min_eq_left h4] at h
  unfold dnr
  rw [h]
theorem Gw.ge {c : Nat} {M M1 : PM} (g : Gw c M M1) : Ge (fun o j => o = 20 ∧ (j = 17 ∨ j = 19)) M M1 := ⟨g.1.1, g.2.2.1, g.2.2.2⟩
abbrev bxr (o j : Nat) : Prop := o = 20 ∧ ((16 ≤ j ∧ j ≤ 19) ∨ j = 39)
abbrev byr (o j : Nat) : Prop := o = 72 ∧ (j = 10 ∨ (14 ≤ j ∧ j ≤ 18) ∨ j = 25)
section
variable {M M1 : PM} {b : Nat → Nat} {n : Nat}
theorem DenT.sr {M : PM} {f : Nat} {v : Option Nat} {h a : Nat} {D : Dn} (hd : DenT M h a D) : DenT (M.sr 20 f v) h a D := by
  have fq : Fq (fun o j => o = 20 ∧ j = f) M (M.sr 20 f v) := Fq.sr (c := fun o j => o = 20 ∧ j = f) Fq.rf ⟨rfl, rfl⟩
  exact hd.fr (Nat.le_of_eq fq.1.symm) (fun o h1 h2 _ _ => ⟨by rw [fq.k], funext (fun j => fq.i o j (by omega)), funext (fun j => fq.r o j (by omega))⟩)
theorem xs_readsRule (h : TX n b M) (hs : Sh M) :
    (okR n b → ∃ M', x_readsRule M = some (0, M') ∧ Ge bxr M M' ∧ (M'.n ≤ M.n + 40 ∧ M'.w ≤ M.w + 200) ∧ TX 0 b M' ∧ RuN 39 n b M') ∧
    (¬ okR n b → ∃ M', x_readsRule M = some (-1 - zn (prs b (min n 40)).1, M') ∧ Ge bxr M M' ∧ (M'.n ≤ M.n + 40 ∧ M'.w ≤ M.w + 200) ∧ TX 0 b M') := by
  have t1 := h.1.1
  obtain ⟨M1, e1, f1, i17, i19, X1, T1⟩ := xs_begins (m := 40) h hs (by omega)
  have e1' : x_begins 40 M = _ := e1
  have fx : ∀ (N : PM) (v : Option Nat), Fq (fun o j => o = 20 ∧ j = 39) N (N.sr 20 39 v) := fun N v => Fq.sr (c := fun o j => o = 20 ∧ j = 39) Fq.rf ⟨rfl, rfl⟩
  have g1 : Ge bxr M M1 := (f1.mo (d := bxr) (fun o j q => ⟨q.1, Or.inl q.2⟩)).ge
  rcases Nat.eq_zero_or_pos n with e0 | hn
  · subst e0
    refine ⟨fun _ => ⟨M1.sr 20 39 none, ?_, g1.tr ((fx M1 none).mo (d := bxr) (fun o j q => ⟨q.1, Or.inr q.2⟩)).ge, ⟨?_, ?_⟩, T1.fr (fx M1 none) (by omega) (fun j => by omega), Or.inl ⟨rfl, by rw [sr_r, if_pos ⟨rfl, rfl⟩]⟩⟩, fun w => absurd (Or.inl rfl) w⟩
    · unfold x_readsRule
      rw [bde e1']
      simp only [jn_u]
      rw [if_pos (show zn 0 = 0 from rfl), lt_u, if_pos (show zn 0 = 0 from rfl)]
    · rw [(fx M1 none).1, f1.1]; omega
    · rw [(fx M1 none).2.1, f1.2.1]; omega
  · have nz : ¬ zn n = 0 := by rw [zn_eq_l (by omega) (by omega)]; omega
    have hp := (xs_rule (b := b) (e := min n 40) (by omega) 120 100 0 0 (by omega) (by omega)).1 0 (by omega) (by omega) (by omega) M1 X1 i17 i19
    have hp' : xR b 0 0 (prs b (min n 40)) M1 (x_reads (zn 0) M1) := hp
    rw [show zn 0 = (0 : Int32) from rfl] at hp'
    have hle := prs_le b (min n 40)
    unfold okR
    have fin : ∀ (M2 : PM) (q : Nat) (r : Option Nat) (g : Bool), q ≤ min n 40 → Gw q M1 M2 → M2.i 20 17 = zn q → x_reads 0 M1 = some (r, M2) → (r = none → g = false) → (∀ a, r = some a → g = true) → x_readsRule M = some (if g = true ∧ q = n then 0 else -1 - zn q, M2.sr 20 39 r) ∧ Ge bxr M (M2.sr 20 39 r) ∧ ((M2.sr 20 39 r).n ≤ M.n + 40 ∧ (M2.sr 20 39 r).w ≤ M.w + 200) ∧ TX 0 b (M2.sr 20 39 r) := by
      intro M2 q r g hq hg h17 hr hg1 hg2
      have X2 := (X1.gw hg).fr (fx M2 r) (by omega) (fun j => by omega)
      have ef := xs_faultOf (n := n) (m := 40) (p := q) X2 (((fx M2 r).i _ _ (by omega)).trans h17) hq t1 g
      have hun : x_readsRule M = bd (x_faultOf (zn n) (bo g) (M2.sr 20 39 r)) fun v3 M5 => some (v3, M5) := by
        unfold x_readsRule
        rw [bde e1']
        simp only [jn_u]
        rw [if_neg nz, bde hr, lt_u, if_neg nz, lt_u, sr_r, if_pos ⟨rfl, rfl⟩]
        cases r with
        | none => rw [nl_n, hg1 rfl]; rfl
        | some a => rw [nl_s, hg2 a rfl]; rfl
      refine ⟨by rw [hun, bde ef], (g1.tr (hg.ge.mo (fun o j w => ⟨w.1, Or.inl (by omega)⟩))).tr ((fx M2 r).mo (d := bxr) (fun o j w => ⟨w.1, Or.inr w.2⟩)).ge, ⟨?_, ?_⟩, ?_⟩
      · have := hg.1.2; rw [(fx M2 r).1]; rw [f1.1] at this; omega
      · have := hg.2.1; rw [(fx M2 r).2.1]; rw [f1.2.1] at this; omega
      · exact (T1.ge X1.1.2 hg.ge (by omega) (fun j => by omega)).fr (fx M2 r) (by omega) (fun j => by omega)
    have hdn : ∀ q D, prs b (min n 40) = (q, some D) → q = n → dnr n b = D := fun q D w1 w2 => dnr_e (by rw [w1, w2])
    generalize prs b (min n 40) = R at hp' hle hdn ⊢
    rcases R with ⟨q, o⟩
    have hle' : q ≤ min n 40 := hle
    cases o with
    | none =>
      obtain ⟨M2, hg, h17, hr⟩ := xR_n hp'
      rw [Nat.sub_zero] at hg
      obtain ⟨r1, r2, r3, r4⟩ := fin M2 q none false hle' hg h17 hr (fun _ => rfl) (fun a w => by cases w)
      rw [if_neg (fun w => Bool.noConfusion w.1)] at r1
      refine ⟨fun w => ?_, fun _ => ⟨_, r1, r2, r3, r4⟩⟩
      rcases w with w | ⟨D, w⟩
      · omega
      · cases w
    | some D =>
      obtain ⟨M2, hg, h17, -, a, h0, hr, hd, hh⟩ := xR_s hp'
      rw [Nat.sub_zero] at hg hh
      obtain ⟨r1, r2, r3, r4⟩ := fin M2 q (some a) true hle' hg h17 hr (fun w => by cases w) (fun a w => rfl)
      refine ⟨fun w => ?_, fun w => ?_⟩
      · have hqn : q = n := by
          rcases w with w | ⟨D', w⟩
          · omega
          · exact congrArg Prod.fst w
        rw [if_pos ⟨rfl, hqn⟩] at r1
        refine ⟨_, r1, r2, r3, r4, Or.inr ⟨hn, a, by rw [sr_r, if_pos ⟨rfl, rfl⟩], ?_⟩⟩
        rw [hdn q D rfl hqn]
        exact (hd.mono (show h0 ≤ 100 by omega)).sr
      · rw [if_neg (fun w2 => w (Or.inr ⟨D, by rw [w2.2]⟩))] at r1
        exact ⟨_, r1, r2, r3, r4⟩
theorem ms_readRule (h : TY n b M) (hs : Sh M) :
    (okR n b → ∃ M', m_readRule M = some (1, M') ∧ Fq byr M M' ∧ TY 0 b M') ∧
    (¬ okR n b → ∃ M', m_readRule M = some (0, M') ∧ Fq byr M M' ∧ TY 0 b M' ∧ M'.i 72 18 = zn (prs b (min n 40)).1) := by
  have t1 := h.1.1
  obtain ⟨M1, e1, f1, i17, i15, R1, T1⟩ := ms_beginText (m := 40) h hs (by omega)
  have e1' : m_beginText 40 M = _ := e1
  obtain ⟨M2, hM2⟩ : ∃ M2, M2 = M1.si 72 25 0 := ⟨_, rfl⟩
  have f2 : Fq (fun o j => o = 72 ∧ j = 25) M1 M2 := by rw [hM2]; exact Fq.si (c := fun o j => o = 72 ∧ j = 25) Fq.rf ⟨rfl, rfl⟩
  have R2 : RC 78 b (min n 40) M2 := R1.fr f2 (fun j w => by omega) (fun j => by omega)
  have j17 : M2.i 72 17 = zn 0 := (f2.i _ _ (by omega)).trans i17
  have j15 : M2.i 72 15 = zn n := (f2.i _ _ (by omega)).trans i15
  have f12 : Fq byr M M2 := (f1.mo (d := byr) (fun o j q => ⟨q.1, q.2.elim Or.inl (fun w => Or.inr (Or.inl w))⟩)).tr (f2.mo (d := byr) (fun o j q => ⟨q.1, Or.inr (Or.inr q.2)⟩))
  have T2 : TY 0 b M2 := T1.fr f2 (by omega) (fun j => by omega)
  have f3 : ∀ N q, Fq byr N (Mw N q) := fun N q => (Mw.fq N q).mo (d := byr) (fun o j w => ⟨w.1, Or.inr (Or.inl (by omega))⟩)
  have f4 : ∀ N q, Fq byr N (Ma N q) := fun N q => (Ma.fq N q).mo (d := byr) (fun o j w => ⟨w.1, Or.inr (Or.inl (by omega))⟩)
  have T3 : ∀ N q, TY 0 b N → TY 0 b (Mw N q) := fun N q w => w.fr (Mw.fq N q) (by omega) (fun j => by omega)
  have T4 : ∀ N q, TY 0 b N → TY 0 b (Ma N q) := fun N q w => w.fr (Ma.fq N q) (by omega) (fun j => by omega)
  rcases Nat.eq_zero_or_pos n with e0 | hn
  · subst e0
    refine ⟨fun _ => ⟨M2, ?_, f12, T2⟩, fun w => absurd (Or.inl rfl) w⟩
    unfold m_readRule
    rw [bde e1', lt_u, ← hM2]
    simp only [jn_u]
    rw [j15, if_pos (show zn 0 ≤ 0 by decide), bde (wr_ok R2 j17 j15 (Nat.le_refl _) (by omega)), ckb_t (Or.inr rfl)]
  · have nz : ¬ zn n ≤ 0 := by
      have := zn_le (a := n) (b := 0) (by omega) (by omega)
      rw [show zn 0 = (0 : Int32) from rfl] at this
      rw [this]; omega
    have hg := (ms_rule R2 (by omega) (kd85 (hs.fr f12 (by decide +kernel))) 120 100 0 0 (by omega) (by omega)).1 (by omega) (by omega)
    rw [ma_id j17] at hg
    have hg' : mR (prs b (min n 40)) M2 (m_held (zn 0) M2) := hg
    rw [show zn 0 = (0 : Int32) from rfl] at hg'
    have hle := prs_le b (min n 40)
    have hun : m_readRule M = bd (m_held 0 M2) fun _ M5 => bd (m_wasRight M5) fun v1 M4 => ckb (v1 = 0 ∨ v1 = 1) <| some (v1, M4) := by
      unfold m_readRule
      rw [bde e1', lt_u, ← hM2]
      simp only [jn_u]
      rw [j15, if_neg nz]
    rw [hun]
    unfold okR
    generalize prs b (min n 40) = R at hg' hle ⊢
    rcases R with ⟨q, o⟩
    have hle' : q ≤ min n 40 := hle
    cases o with
    | none =>
      obtain ⟨v, hv⟩ := mR_n hg'
      refine ⟨fun w => ?_, fun _ => ⟨_, ?_, f12.tr (f3 M2 q), T3 _ _ T2, Mw.i18 M2 q⟩⟩
      · rcases w with w | ⟨D, w⟩
        · omega
        · cases w
      · rw [bde hv, bde (wr_f (show q < 1000 by omega) (Mw.i18 M2 q)), ckb_t (Or.inl rfl)]
    | some D =>
      have hv := mR_s hg'
      have k15 : (Ma M2 q).i 72 15 = zn n := by rw [(Ma.fq M2 q).i _ _ (by omega)]; exact j15
      refine ⟨fun w => ?_, fun w => ?_⟩
      · have hqn : q = n := by
          rcases w with w | ⟨D', w⟩
          · omega
          · exact congrArg Prod.fst w
        refine ⟨_, ?_, f12.tr (f4 M2 q), T4 _ _ T2⟩
        rw [bde hv, bde (wr_ok (Ma.rc R2 q) (Ma.i17 _ _) k15 (by omega) (by omega)), ckb_t (Or.inr rfl)]
      · have hqn : q < n := by
          have : q ≠ n := fun w2 => w (Or.inr ⟨D, by rw [w2]⟩)
          omega
        refine ⟨_, ?_, (f12.tr (f4 M2 q)).tr (f3 _ q), T3 _ _ (T4 _ _ T2), Mw.i18 _ q⟩
        rw [bde hv, bde (wr_at (Ma.rc R2 q) (Ma.i17 _ _) k15 hqn (by omega)), ckb_t (Or.inl rfl)]
end
