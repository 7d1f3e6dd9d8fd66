set_option maxRecDepth 100000
/-! RULE: the call -/
theorem shR_bxr : ∀ q ∈ shR, ¬ bxr q.1 q.2.1 := by decide +kernel
theorem shR_38 : ∀ q ∈ shR, ¬ (q.1 = 20 ∧ q.2.1 = 38) := by decide +kernel
theorem b8_8 : ∀ c, c < 256 → (Int32.toInt8 (b8 c)).toInt32 = b8 c := by decide +kernel
section
variable {C : SV} {A : Nat → Int32} {M M1 : PM} {nT nU ch n : Nat} {bT b : Nat → Nat} {U : Nat → Nat → Int32} {K : Nat → Bool × (Nat → Int32) × Nat} {l : List Int64}
theorem XS.gr (h : XS C A nT bT nU U ch K l M) (f : Ge bxr M M1) (ht : TX 0 bT M1) : XS C A 0 bT nU U ch K l M1 := by
  obtain ⟨⟨a1, b1, b2⟩, c1, d1, e1, l1, k1⟩ := h
  have h0 := a1.sh.1
  refine ⟨⟨a1.ge f shR_bxr (a1.ru.ge h0 f (fun o j q => ?_)) (fun o j q => ?_), b1.ge (by omega) f (fun o j q => ?_), b2⟩, ht, d1.ge h0 k1 f (fun j => ?_) ?_ (fun o j q => ?_), e1.ge h0 k1 f (fun j => ?_) (fun j => ?_) ?_ (fun o j q => ?_), l1.ge h0 f ?_ (fun j => ?_), k1.ge h0 f (fun j => ?_) (fun j => ?_) (fun o j q _ _ => ?_)⟩
  all_goals first | (unfold rdc at q; unfold bxr; omega) | (unfold bxr; omega)
theorem CX.rul (h : CX C M) (hr : okR n b) (hb : ∀ k, b k < 256) (r : RuN 39 n b M) : CX (C.rul n b) (M.sr 20 38 (M.r 20 39)) := by
  have fq : Fq (fun o j => o = 20 ∧ j = 38) M (M.sr 20 38 (M.r 20 39)) := Fq.sr (c := fun o j => o = 20 ∧ j = 38) Fq.rf ⟨rfl, rfl⟩
  refine ⟨⟨h.sh.fr fq shR_38, rul_ok h.ok hb hr⟩, ⟨?_, ?_, ?_, ?_⟩, h.w fq (fun o j q1 q2 => by omega), h.e fq (fun o j q1 q2 => by omega), ?_⟩
  · rw [fq.i _ _ (by omega)]; exact h.ns
  · rw [fq.i _ _ (by omega)]; exact h.nw
  · rw [fq.i _ _ (by omega)]; exact h.nt
  · rw [fq.i _ _ (by omega)]; exact h.ne
  · rcases r with ⟨r1, r2⟩ | ⟨r1, a, r2, r3⟩
    · exact Or.inl ⟨r1, by rw [sr_r, if_pos ⟨rfl, rfl⟩]; exact r2⟩
    · exact Or.inr ⟨r1, a, by rw [sr_r, if_pos ⟨rfl, rfl⟩]; exact r2, r3.sr⟩
theorem XS.ru (h : XS C A nT bT nU U ch K l M) (hr : okR n b) (hb : ∀ k, b k < 256) (r : RuN 39 n b M) : XS (C.rul n b) A nT bT nU U ch K l (M.sr 20 38 (M.r 20 39)) := by
  have f : Fq (fun o j => o = 20 ∧ j = 38) M (M.sr 20 38 (M.r 20 39)) := Fq.sr (c := fun o j => o = 20 ∧ j = 38) Fq.rf ⟨rfl, rfl⟩
  have hx := h.x.rul hr hb r
  obtain ⟨⟨a1, b1, b2⟩, c1, d1, e1, l1, k1⟩ := h
  refine ⟨⟨hx, b1.fr f (fun o j q => ?_), b2⟩, c1.fr f ?_ (fun j => ?_), d1.fr k1 f (fun j => ?_) ?_ (fun o j q => ?_), e1.fr k1 f (fun j => ?_) (fun j => ?_) ?_ (fun o j q => ?_), l1.fr f ?_ (fun j => ?_), k1.fr f (fun j => ?_) (fun j => ?_) (fun o j q _ => ?_)⟩
  all_goals first | (unfold rdc at q; omega) | omega
theorem ms_copy {β : Type} {a nn : Nat} (L : Nat → Int32 → PM → Option β) (Kc : PM → Option β) (hL : ∀ n v M3, L (n + 1) v M3 = if zn nn ≤ v then Kc M3 else (lt (M3.r 72 22) fun r1 => ck v 80 <| rf r1 fun a1 => cka M3 a1 21 v <| lt (M3.si a1 (ix v) ((Int32.toInt8 (M3.i 78 (ix v))).toInt32)) fun M4 => lt (v + 1) fun v4 => L n v4 M4)) (ha : a = 83 ∨ a = 84) (hr : M.r 72 22 = some a) (hk : M.k a = (21, 40)) (hn : nn ≤ 40) (ht : TY 0 b M) : ∃ M', L FU 0 M = Kc M' ∧ Fq (fun o _ => o = a) M M' ∧ ∀ k, k < nn → M'.i a k = (Int32.toInt8 (zn (b k))).toInt32 := by
  refine wlp (fun n k (_ : Unit) M2 => L n (zn k) M2) nn FU (FU_lt (by omega)) (fun _ s => s) () (fun k M2 => Fq (fun o _ => o = a) M M2 ∧ ∀ i, i < k → M2.i a i = (Int32.toInt8 (zn (b i))).toInt32) (fun o => ∃ M', o = Kc M' ∧ Fq (fun o _ => o = a) M M' ∧ ∀ k, k < nn → M'.i a k = (Int32.toInt8 (zn (b k))).toInt32) (fun n k M2 hk2 hI => ?_) (fun n M2 hI => ?_) M ⟨Fq.rf, fun i hi => absurd hi (Nat.not_lt_zero i)⟩
  · obtain ⟨f, v⟩ := hI
    have q1 : M2.r 72 22 = some a := (f.r _ _ (by omega)).trans hr
    have q2 : M2.k a = (21, 40) := by rw [f.k]; exact hk
    have q3 : M2.i 78 k = b8 (b k) := (f.i _ _ (by omega)).trans (ht.2.2 k (by omega))
    obtain ⟨M5, hM5⟩ : ∃ M5, M5 = M2.si a k (b8 (b k)) := ⟨_, rfl⟩
    have f5 : Fq (fun o _ => o = a) M2 M5 := by rw [hM5]; exact Fq.si (c := fun o _ => o = a) Fq.rf rfl
    refine ⟨M5, ⟨f.tr f5, fun i hi => ?_⟩, ?_⟩
    · rw [hM5, si_i]
      by_cases e : i = k
      · rw [if_pos ⟨rfl, e⟩, e]; rfl
      · rw [if_neg (fun w => e w.2)]; exact v i (by omega)
    · show L (n + 1) (zn k) M2 = L n (zn (k + 1)) M5
      rw [hL, if_neg (by rw [zn_le (by omega) (by omega)]; omega), lt_u, ck_zn (by omega) (by omega), rfe q1, cka_k q2 (by omega) (by omega), ix_zn (by omega), q3, b8_8 _ (ht.1.2 k), lt_u, ← hM5, zn_addl, lt_u]
  · obtain ⟨f, v⟩ := hI
    refine ⟨M2, ?_, f, v⟩
    show L (n + 1) (zn nn) M2 = _
    rw [hL, if_pos (Int32.le_refl _)]
theorem CY.rul {a : Nat} (h : CY 83 C M) (hr : okR n b) (hb : ∀ k, b k < 256) (ha : a = 83 ∨ a = 84) (f : Fq (fun o j => o = a ∨ (o = 72 ∧ (j = 22 ∨ j = 24))) M M1) (hs : Sh M1) (h22 : M1.r 72 22 = some a) (h24 : M1.i 72 24 = zn n) (hv : ∀ k, k < n → M1.i a k = (Int32.toInt8 (zn (b k))).toInt32) : CY a (C.rul n b) M1 := by
  refine ⟨⟨hs, rul_ok h.ok hb hr⟩, ⟨?_, ?_, ?_, ?_⟩, h.w f (fun o j q1 q2 => by omega), h.e f (fun j => by omega), ha, h22, h24, hv⟩
  · rw [f.i _ _ (by omega)]; exact h.ns
  · rw [f.i _ _ (by omega)]; exact h.nw
  · rw [f.i _ _ (by omega)]; exact h.nt
  · rw [f.i _ _ (by omega)]; exact h.ne
theorem bxr_gx : ∀ o j, bxr o j → gxc o j := fun o j q => Or.inl (by omega)
theorem byr_qt : ∀ o j, byr o j → yqt o j := fun o j q => by unfold yqt ts; omega
theorem call_rule : Call x_rule m_rule := by
  refine Call.xy (fun C A nT bT nU U ch K l hC hA h15 ht => ?_)
  by_cases g : okR nT bT
  · have n40 := okR_40 g
    refine ⟨0, C.rul nT bT, A, 0, bT, nU, U, K, l, h15, fun M h => ?_, fun M h => ?_⟩
    · obtain ⟨M1, e1, f1, ⟨b1, b2⟩, T1, R1⟩ := (xs_readsRule h.t h.x.sh).1 g
      have f2 : Fq (fun o j => o = 20 ∧ j = 38) M1 (M1.sr 20 38 (M1.r 20 39)) := Fq.sr (c := fun o j => o = 20 ∧ j = 38) Fq.rf ⟨rfl, rfl⟩
      refine ⟨M1.sr 20 38 (M1.r 20 39), ?_, (f1.mo bxr_gx).tr (f2.mo (d := gxc) (fun o j q => Or.inl (by omega))).ge, (h.gr f1 T1).ru g ht.2 R1, ?_, ?_⟩
      · unfold x_rule
        rw [bde e1, if_pos rfl, lt_u, lt_u]
      · rw [f2.1]; omega
      · rw [f2.2.1]; omega
    · have f0 : Fq (fun o j => o = 72 ∧ j = 13) M (M.si 72 13 0) := Fq.si (c := fun o j => o = 72 ∧ j = 13) Fq.rf ⟨rfl, rfl⟩
      have T0 := h.t.fr f0 (by omega) (fun j => by omega)
      obtain ⟨M1, e1, f1, T1⟩ := (ms_readRule T0 (h.y.sh.fr f0 (by decide +kernel))).1 g
      have fq : Fq yqt M M1 := (f0.mo (d := yqt) (fun o j q => Or.inr (Or.inl ⟨q.1, Or.inr (Or.inl q.2)⟩))).tr (f1.mo byr_qt)
      have s1 : YS C A 0 bT nU U ch K l M1 := h.q fq T1 ((h.ly.fr f0 (by omega) (fun j => by omega)).fr f1 (by unfold byr; omega) (fun j => by unfold byr; omega))
      obtain ⟨Kd, hKd⟩ : ∃ Kd : PM → Option (Int32 × PM), Kd = (fun (M5 : PM) => lt (M5.si 72 24 (zn nT)) fun M6 => some (0, M6)) := ⟨_, rfl⟩
      have r22 : M1.r 72 22 = some 83 := s1.y.ru.2.1
      obtain ⟨M2, e2, f2, v2⟩ := ms_copy (m_rule_L26 (zn nT) Kd) Kd (fun n v M3 => by rw [m_rule_L26]) (Or.inl rfl) r22 (kd83 s1.y.sh) n40 T1
      obtain ⟨M3, hM3⟩ : ∃ M3, M3 = M2.si 72 24 (zn nT) := ⟨_, rfl⟩
      have f3 : Fq (fun o j => o = 72 ∧ j = 24) M2 M3 := by rw [hM3]; exact Fq.si (c := fun o j => o = 72 ∧ j = 24) Fq.rf ⟨rfl, rfl⟩
      have f23 : Fq (fun o j => o = 83 ∨ (o = 72 ∧ (j = 22 ∨ j = 24))) M1 M3 := (f2.mo (fun o j w => Or.inl w)).tr (f3.mo (fun o j w => Or.inr ⟨w.1, Or.inr w.2⟩))
      have sh3 : Sh M3 := (s1.y.sh.fr f2 (by decide +kernel)).fr f3 (by decide +kernel)
      refine ⟨M3, ?_, fq.gy.tr (f23.mo (d := gyc) (fun o j w => Or.inl (by omega))), ⟨s1.y.rul g ht.2 (Or.inl rfl) f23 sh3 ?_ ?_ (fun k hk => ?_), ?_⟩, s1.b.fr f23 (fun j => by omega), s1.t.fr f23 (by omega) (fun j => by omega), s1.u.fr f23 (fun j => by omega) (by omega), s1.kk.fr f23 (fun o j q1 q2 => by omega) (by omega), s1.ly.fr f23 (by omega) (fun j => by omega)⟩
      · unfold m_rule
        rw [lt_u, lt_u, bde e1, if_neg (by decide), T0.2.1]
        simp only [lt_u] at hKd
        simp only [lt_u]
        rw [← hKd, e2, hKd, hM3]
      · rw [f3.r _ _ (by omega), f2.r _ _ (by omega)]; exact r22
      · rw [hM3, si_i, if_pos ⟨rfl, rfl⟩]
      · rw [f3.i _ _ (by omega)]; exact v2 k hk
      · rw [f23.r _ _ (by omega)]; exact s1.1.2
  · refine ⟨-1 - zn (prs bT (min nT 40)).1, C, A, 0, bT, nU, U, K, l, h15, fun M h => ?_, fun M h => ?_⟩
    · obtain ⟨M1, e1, f1, ⟨b1, b2⟩, T1⟩ := (xs_readsRule h.t h.x.sh).2 g
      refine ⟨M1, ?_, f1.mo bxr_gx, h.gr f1 T1, by omega, by omega⟩
      unfold x_rule
      have := prs_le bT (min nT 40)
      rw [bde e1, if_neg (fun w => m1p_neg (p := (prs bT (min nT 40)).1) (by omega) (by rw [w]; decide))]
    · have f0 : Fq (fun o j => o = 72 ∧ j = 13) M (M.si 72 13 0) := Fq.si (c := fun o j => o = 72 ∧ j = 13) Fq.rf ⟨rfl, rfl⟩
      have T0 := h.t.fr f0 (by omega) (fun j => by omega)
      obtain ⟨M1, e1, f1, T1, i18⟩ := (ms_readRule T0 (h.y.sh.fr f0 (by decide +kernel))).2 g
      have fq : Fq yqt M M1 := (f0.mo (d := yqt) (fun o j q => Or.inr (Or.inl ⟨q.1, Or.inr (Or.inl q.2)⟩))).tr (f1.mo byr_qt)
      refine ⟨M1, ?_, fq.gy, h.q fq T1 ((h.ly.fr f0 (by omega) (fun j => by omega)).fr f1 (by unfold byr; omega) (fun j => by unfold byr; omega))⟩
      unfold m_rule
      rw [lt_u, lt_u, bde e1, if_pos rfl, i18]
end
