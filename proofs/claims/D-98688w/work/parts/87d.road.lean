set_option maxRecDepth 100000
/-! ROAD -/
def mxN (f : Nat → Nat) (k s : Nat) : Nat := itr (fun j s => max s (f j + 1)) k s
theorem mxN_le (f : Nat → Nat) (k s n : Nat) : mxN f k s ≤ n ↔ s ≤ n ∧ ∀ j, j < k → f j < n := by
  induction k with
  | zero => exact ⟨fun h => ⟨h, fun j q => absurd q (by omega)⟩, fun h => h.1⟩
  | succ k ih =>
    show max (mxN f k s) (f k + 1) ≤ n ↔ _
    rw [Nat.max_le, ih]
    constructor
    · rintro ⟨⟨h1, h2⟩, h3⟩
      refine ⟨h1, fun j hj => ?_⟩
      rcases Nat.lt_or_eq_of_le (Nat.le_of_lt_succ hj) with q | q
      · exact h2 j q
      · rw [q]; exact h3
    · rintro ⟨h1, h2⟩
      exact ⟨⟨h1, fun j hj => h2 j (by omega)⟩, h2 k (by omega)⟩
def SV.road (C : SV) (n : Nat) : SV := ((n, C.1.2), C.2)
def rdA (A : Nat → Int32) (n : Nat) : Nat → Int32 := fun j => if 14 + 5 * n ≤ j ∧ j < 44 then 0 else A j
abbrev atN (A : Nat → Int32) (t : Nat) : Nat := ix (A t)
section
variable {C : SV} {A : Nat → Int32} {M : PM} {nT nU ch : Nat} {bT : Nat → Nat} {U : Nat → Nat → Int32} {K : Nat → Bool × (Nat → Int32) × Nat} {l : List Int64}
theorem at_zn (hC : OKC C) (hA : OKA C A) {t : Nat} (ht : t < C.nt) : A t = zn (atN A t) ∧ atN A t < C.ns := by
  have := hC.ns6
  obtain ⟨s, h1, h2⟩ := hA.1 t ht
  have e : atN A t = s := by unfold atN; rw [h2, ix_zn (by omega)]
  rw [e]; exact ⟨h2, h1⟩
theorem ok_road (h : OKC C) {n : Nat} (h1 : 1 ≤ n) (h6 : n ≤ 6) (hw : ∀ e, e < C.ne → C.wh e < n) : OKC (C.road n) := by
  obtain ⟨a, b, c, d, e, f, g⟩ := h
  exact ⟨⟨h1, h6⟩, b, c, d, e, fun x hx => ⟨(f x hx).1, (f x hx).2.1, hw x hx, (f x hx).2.2.2⟩, g⟩
theorem oka_road (hC : OKC C) (hA : OKA C A) {n : Nat} (h1 : 1 ≤ n) (ha : ∀ t, t < C.nt → atN A t < n) : OKA (C.road n) (rdA A n) := by
  have b := hC.nt4
  refine ⟨fun t ht => ?_, ?_, fun t ht => ?_⟩
  · have ht' : t < C.nt := ht
    refine ⟨atN A t, ha t ht', ?_⟩
    unfold rdA
    rw [if_neg (by omega)]; exact (at_zn hC hA ht').1
  · unfold rdA
    rw [if_neg (by omega)]; exact hA.2.1
  · have ht' : t < C.nt := ht
    unfold rdA
    rw [if_neg (by omega)]; exact hA.2.2 t ht'
theorem xs_road1 (h : CX C M) (ha : RvX 21 A M) (hA : OKA C A) (c1 : Int32) (Kc : Int32 → PM → Option (Int32 × PM)) : x_road_L4 c1 Kc FU 1 0 M = Kc (zn (mxN (atN A) C.nt 1)) M := by
  have b1 := h.ok.nt4
  have b2 := h.ok.ns6
  refine nlp (fun n k s => x_road_L4 c1 Kc n (zn s) (zn k) M) C.nt FU (FU_lt (by omega)) (fun j s => max s (atN A j + 1)) 1 _ (fun n k hk => ?_) (fun n => ?_)
  · have hb : mxN (atN A) k 1 ≤ 6 := (mxN_le _ _ _ _).mpr ⟨by omega, fun j hj => by have := (at_zn h.ok hA (t := j) (by omega)).2; omega⟩
    obtain ⟨e1, e2⟩ := at_zn h.ok hA hk
    have hv : M.i 22 k = zn (atN A k) := ((ha.1 k (by omega)).1).trans e1
    show x_road_L4 c1 Kc (n + 1) (zn (mxN (atN A) k 1)) (zn k) M = x_road_L4 c1 Kc n (zn (max (mxN (atN A) k 1) (atN A k + 1))) (zn (k + 1)) M
    rw [x_road_L4, h.nt, if_neg (by rw [zn_le (by omega) (by omega)]; omega), ck_zn (by omega) (by omega), ix_zn (by omega), hv, zn_addl, imax_zn (by omega) (by omega), lt_u, lt_u, zn_addl]
  · show x_road_L4 c1 Kc (n + 1) _ (zn C.nt) M = _
    rw [x_road_L4, h.nt, if_pos (Int32.le_refl _)]
    rfl
theorem xs_road2 (h : CX C M) {s0 : Nat} (hs : s0 ≤ 6) (c1 : Int32) (Kc : Int32 → PM → Option (Int32 × PM)) : x_road_L36 c1 Kc FU (zn s0) 0 M = Kc (zn (mxN C.wh C.ne s0)) M := by
  have b1 := h.ok.ne8
  have b2 := h.ok.ns6
  refine nlp (fun n k s => x_road_L36 c1 Kc n (zn s) (zn k) M) C.ne FU (FU_lt (by omega)) (fun j s => max s (C.wh j + 1)) s0 _ (fun n k hk => ?_) (fun n => ?_)
  · have hb : mxN C.wh k s0 ≤ 6 := (mxN_le _ _ _ _).mpr ⟨by omega, fun j hj => by have := h.ok.whs j (by omega); omega⟩
    have e2 := h.ok.whs k hk
    show x_road_L36 c1 Kc (n + 1) (zn (mxN C.wh k s0)) (zn k) M = x_road_L36 c1 Kc n (zn (max (mxN C.wh k s0) (C.wh k + 1))) (zn (k + 1)) M
    rw [x_road_L36, h.ne, if_neg (by rw [zn_le (by omega) (by omega)]; omega), ck_zn (by omega) (by omega), ix_zn (by omega), h.wh k hk, zn_addl, imax_zn (by omega) (by omega), lt_u, lt_u, zn_addl]
  · show x_road_L36 c1 Kc (n + 1) _ (zn C.ne) M = _
    rw [x_road_L36, h.ne, if_pos (Int32.le_refl _)]
    rfl
def rdOk (C : SV) (A : Nat → Int32) (n : Nat) : Prop := (∀ t, t < C.nt → atN A t < n) ∧ ∀ e, e < C.ne → C.wh e < n
theorem rdOk_iff (C : SV) (A : Nat → Int32) {n : Nat} (h1 : 1 ≤ n) : mxN C.wh C.ne (mxN (atN A) C.nt 1) ≤ n ↔ rdOk C A n := by
  rw [mxN_le, mxN_le]
  exact ⟨fun h => ⟨h.1.2, h.2⟩, fun h => ⟨⟨h1, h.1⟩, h.2⟩⟩
theorem xs_rdBook (ha : RvX 21 A M) {n : Nat} (h1 : 1 ≤ n) (h6 : n ≤ 6) (c3 : Int32) (Kc : PM → Option (Int32 × PM)) : ∃ M1, x_road_L93 c3 Kc FU (5 * zn n) M = Kc M1 ∧ Fq (fun o _ => o = 25) M M1 ∧ RvX 21 (rdA A n) M1 := by
  rw [zn_mull]
  have := wlp (fun m k (_ : Unit) M2 => x_road_L93 c3 Kc m (zn (5 * n + k)) M2) (30 - 5 * n) FU (FU_lt (by omega)) (fun _ s => s) () (fun k M2 => Fq (fun o _ => o = 25) M M2 ∧ ∀ j, j < 30 → M2.i 25 j = if 5 * n ≤ j ∧ j < 5 * n + k then 0 else A (14 + j)) (fun o => ∃ M1, o = Kc M1 ∧ Fq (fun o _ => o = 25) M M1 ∧ RvX 21 (rdA A n) M1) (fun m k M2 hk hI => ?_) (fun m M2 hI => ?_) M ⟨Fq.rf, fun j hj => by rw [if_neg (by omega)]; exact ha.2.2.2 j hj⟩
  · exact this
  · obtain ⟨f, i1⟩ := hI
    refine ⟨M2.si 25 (5 * n + k) 0, ⟨Fq.si (c := fun o _ => o = 25) f rfl, fun j hj => ?_⟩, ?_⟩
    · rw [si_i]
      by_cases e : j = 5 * n + k
      · rw [if_pos ⟨rfl, e⟩, if_pos (by omega)]
      · rw [if_neg (by omega), i1 j hj]
        by_cases g : 5 * n ≤ j ∧ j < 5 * n + k
        · rw [if_pos g, if_pos (by omega)]
        · rw [if_neg g, if_neg (by omega)]
    · show x_road_L93 c3 Kc (m + 1) (zn (5 * n + k)) M2 = x_road_L93 c3 Kc m (zn (5 * n + (k + 1))) _
      rw [x_road_L93, if_neg (by rw [l_le_zn (by omega) (by omega)]; omega), ck_zn (by omega) (by omega), ix_zn (by omega), lt_u, lt_u, zn_addl, Nat.add_assoc]
  · obtain ⟨f, i1⟩ := hI
    refine ⟨M2, ?_, f, fun t ht => ?_, ?_, ?_, fun k hk => ?_⟩
    · show x_road_L93 c3 Kc (m + 1) (zn (5 * n + (30 - 5 * n))) M2 = _
      rw [x_road_L93, if_pos (by rw [l_le_zn (by omega) (by omega)]; omega)]
    · obtain ⟨a1, a2, a3⟩ := ha.1 t ht
      unfold rdA
      rw [if_neg (by omega), if_neg (by omega), if_neg (by omega), f.i _ _ (by omega), f.i _ _ (by omega), f.i _ _ (by omega)]
      exact ⟨a1, a2, a3⟩
    · unfold rdA
      rw [if_neg (by omega), f.i _ _ (by omega)]; exact ha.2.1
    · unfold rdA
      rw [if_neg (by omega), f.i _ _ (by omega)]; exact ha.2.2.1
    · show M2.i 25 k = _
      unfold rdA
      rw [i1 k hk]
      by_cases g : 5 * n ≤ k
      · rw [if_pos (by omega), if_pos (by omega)]
      · rw [if_neg (by omega), if_neg (by omega)]
theorem xs_road (h : XS C A nT bT nU U ch K l M) (hch : ch < 1000) {n : Nat} (h1 : 1 ≤ n) (h6 : n ≤ 6) (hk : rdOk C A n) : ∃ M1, x_road (zn n) M = some (zn C.ns, M1) ∧ Ge gxc M M1 ∧ XS (C.road n) (rdA A n) nT bT 0 U (ch + 1) K l M1 ∧ M1.n ≤ M.n + 500 ∧ M1.w ≤ M.w + 5000 := by
  have b2 := h.x.ok.ns6
  have m1 : mxN (atN A) C.nt 1 ≤ 6 := (mxN_le _ _ _ _).mpr ⟨by omega, fun j hj => by have := (at_zn h.x.ok h.ok hj).2; omega⟩
  have m2 := (rdOk_iff C A h1).mpr hk
  obtain ⟨M1, hM1⟩ : ∃ M1, M1 = M.si 20 10 (zn n) := ⟨_, rfl⟩
  have f1 : Fq (fun o j => o = 20 ∧ j = 10) M M1 := by rw [hM1]; exact Fq.si (c := fun o j => o = 20 ∧ j = 10) Fq.rf ⟨rfl, rfl⟩
  obtain ⟨M2, e2, f2, a2⟩ := xs_rdBook (M := M1) (h.a.fr f1 (fun o j q => by unfold rdc at q; omega)) h1 h6 (zn C.ns) (fun (M9 : PM) => bd (x_isNew M9) fun _ M10 => some (zn C.ns, M10))
  have f : Fq (fun o j => (o = 20 ∧ j = 10) ∨ o = 25) M M2 := (f1.mo (d := fun o j => (o = 20 ∧ j = 10) ∨ o = 25) (fun o j q => Or.inl q)).tr (f2.mo (d := fun o j => (o = 20 ∧ j = 10) ∨ o = 25) (fun o j q => Or.inr q))
  have x2 : CX (C.road n) M2 := by
    refine ⟨⟨h.x.sh.fr f (by decide +kernel), ok_road h.x.ok h1 h6 hk.2⟩, ⟨?_, ?_, ?_, ?_⟩, h.x.w f (fun o j q1 q2 => by omega), h.x.e f (fun o j q1 q2 => by omega), h.x.ru.fr f (fun o j q => by omega)⟩
    · rw [f2.i _ _ (by omega), hM1, si_i, if_pos ⟨rfl, rfl⟩]; rfl
    · rw [f.i _ _ (by omega)]; exact h.x.nw
    · rw [f.i _ _ (by omega)]; exact h.x.nt
    · rw [f.i _ _ (by omega)]; exact h.x.ne
  obtain ⟨M3, e3, f3, s3⟩ := h.new f (fun o j q => by omega) x2 a2 (oka_road h.x.ok h.ok h1 hk.1) (h.t.fr f (by omega) (fun j => by omega)) (h.lx.fr f (by omega) (fun j => by omega)) hch
  have ff : Fq gxc M M3 := (f.mo (d := gxc) (fun o j q => Or.inl (by omega))).tr (f3.mo (d := gxc) (fun o j q => Or.inl (by unfold isn at q; omega)))
  refine ⟨M3, ?_, ff.ge, s3, ff.n5, ff.w5⟩
  unfold x_road
  rw [xs_road1 h.x h.a h.ok, xs_road2 h.x m1, bde (show x_in (zn n).toInt64 (zn (mxN C.wh C.ne (mxN (atN A) C.nt 1))).toInt64 6 M = some (1, M) from by rw [x_in_r6, if_pos ⟨by rw [zn_le (by omega) (by omega)]; exact m2, by rw [zn_le_l (by omega) (by omega)]; exact h6⟩]), if_neg (by decide), h.x.ns, lt_u, lt_u, lt_u, ← hM1, e2, bde e3]
theorem xs_roadN (h : XS C A nT bT nU U ch K l M) {p : Int32} (hp : ∀ n, 1 ≤ n → n ≤ 6 → p = zn n → ¬ rdOk C A n) : x_road p M = some (-1, M) := by
  have b2 := h.x.ok.ns6
  have m1 : mxN (atN A) C.nt 1 ≤ 6 := (mxN_le _ _ _ _).mpr ⟨by omega, fun j hj => by have := (at_zn h.x.ok h.ok hj).2; omega⟩
  have m3 : mxN C.wh C.ne (mxN (atN A) C.nt 1) ≤ 6 := (mxN_le _ _ _ _).mpr ⟨m1, fun j hj => by have := h.x.ok.whs j hj; omega⟩
  have m4 : 1 ≤ mxN C.wh C.ne (mxN (atN A) C.nt 1) := by
    have h1 : 1 ≤ mxN (atN A) C.nt 1 := ((mxN_le (atN A) C.nt 1 _).mp (Nat.le_refl _)).1
    have h2 := ((mxN_le C.wh C.ne (mxN (atN A) C.nt 1) _).mp (Nat.le_refl _)).1
    omega
  have hn : ¬ (zn (mxN C.wh C.ne (mxN (atN A) C.nt 1)) ≤ p ∧ p ≤ 6) := by
    rintro ⟨q1, q2⟩
    rcases d1_or (n := 6) (by omega) p with ⟨w, w1, w2, rfl⟩ | w
    · refine hp w w1 w2 rfl ((rdOk_iff C A w1).mp ?_)
      rw [zn_le (by omega) (by omega)] at q1; exact q1
    · refine w ⟨Int32.le_trans ?_ q1, q2⟩
      rw [l_le_zn (by omega) (by omega)]; exact m4
  unfold x_road
  rw [xs_road1 h.x h.a h.ok, xs_road2 h.x m1, bde (show x_in p.toInt64 (zn (mxN C.wh C.ne (mxN (atN A) C.nt 1))).toInt64 6 M = some (0, M) from by rw [x_in_r6, if_neg hn]), if_pos rfl]
theorem ms_road1 (h : CY 83 C M) (hb : RvY 73 A M) (hA : OKA C A) {n : Nat} (h6 : n ≤ 6) (Kc : PM → Option (Int32 × PM)) : ∀ d k m, k + d = C.nt → d < m → ((∀ t, k ≤ t → t < C.nt → atN A t < n) → m_road_L19 (zn n) Kc m (zn k) M = Kc M) ∧ ((¬ ∀ t, k ≤ t → t < C.nt → atN A t < n) → m_road_L19 (zn n) Kc m (zn k) M = some (-1, M)) := by
  have b1 := h.ok.nt4
  have b2 := h.ok.ns6
  intro d
  induction d with
  | zero =>
    intro k m hk hm
    obtain ⟨m, rfl⟩ : ∃ r, m = r + 1 := ⟨m - 1, by omega⟩
    refine ⟨fun _ => ?_, fun q => absurd (fun t h1 h2 => absurd h1 (by omega)) q⟩
    rw [m_road_L19, h.nt, if_pos (by rw [zn_le (by omega) (by omega)]; omega)]
  | succ d ih =>
    intro k m hk hm
    obtain ⟨m, rfl⟩ : ∃ r, m = r + 1 := ⟨m - 1, by omega⟩
    have hkt : k < C.nt := by omega
    obtain ⟨e1, e2⟩ := at_zn h.ok hA hkt
    have hv : M.i 73 k = zn (atN A k) := (hb k (by omega)).trans e1
    have hun : m_road_L19 (zn n) Kc (m + 1) (zn k) M = if zn (atN A k) < zn n then (lt (zn k + 1) fun v3 => m_road_L19 (zn n) Kc m v3 M) else some (-1, M) := by
      rw [m_road_L19, h.nt, if_neg (by rw [zn_le (by omega) (by omega)]; omega), ck_zn (by omega) (by omega), ix_zn (by omega), hv]
    obtain ⟨ih1, ih2⟩ := ih (k + 1) m (by omega) (by omega)
    rw [hun]
    by_cases g : atN A k < n
    · rw [if_pos (by rw [zn_lt (by omega) (by omega)]; exact g), lt_u, zn_addl]
      refine ⟨fun q => ih1 (fun t h1 h2 => q t (by omega) h2), fun q => ih2 (fun w => q (fun t h1 h2 => ?_))⟩
      rcases Nat.lt_or_eq_of_le h1 with w1 | w1
      · exact w t w1 h2
      · rw [← w1]; exact g
    · rw [if_neg (by rw [zn_lt (by omega) (by omega)]; exact g)]
      exact ⟨fun q => absurd (q k (Nat.le_refl _) hkt) g, fun _ => rfl⟩
theorem ms_road2 (h : CY 83 C M) {n : Nat} (h6 : n ≤ 6) (Kc : PM → Option (Int32 × PM)) : ∀ d k m, k + d = C.ne → d < m → ((∀ t, k ≤ t → t < C.ne → C.wh t < n) → m_road_L47 (zn n) Kc m (zn k) M = Kc M) ∧ ((¬ ∀ t, k ≤ t → t < C.ne → C.wh t < n) → m_road_L47 (zn n) Kc m (zn k) M = some (-1, M)) := by
  have b1 := h.ok.ne8
  have b2 := h.ok.ns6
  intro d
  induction d with
  | zero =>
    intro k m hk hm
    obtain ⟨m, rfl⟩ : ∃ r, m = r + 1 := ⟨m - 1, by omega⟩
    refine ⟨fun _ => ?_, fun q => absurd (fun t h1 h2 => absurd h1 (by omega)) q⟩
    rw [m_road_L47, h.ne, if_pos (by rw [zn_le (by omega) (by omega)]; omega)]
  | succ d ih =>
    intro k m hk hm
    obtain ⟨m, rfl⟩ : ∃ r, m = r + 1 := ⟨m - 1, by omega⟩
    have hkt : k < C.ne := by omega
    have e2 := h.ok.whs k hkt
    have hv : M.i 77 (4 * k + 2) = zn (C.wh k) := h.wh k hkt
    have hun : m_road_L47 (zn n) Kc (m + 1) (zn k) M = if zn (C.wh k) < zn n then (lt (zn k + 1) fun v3 => m_road_L47 (zn n) Kc m v3 M) else some (-1, M) := by
      rw [m_road_L47, h.ne, if_neg (by rw [zn_le (by omega) (by omega)]; omega), zn_mull, zn_addl, ck_zn (by omega) (by omega), ix_zn (by omega), hv]
    obtain ⟨ih1, ih2⟩ := ih (k + 1) m (by omega) (by omega)
    rw [hun]
    by_cases g : C.wh k < n
    · rw [if_pos (by rw [zn_lt (by omega) (by omega)]; exact g), lt_u, zn_addl]
      refine ⟨fun q => ih1 (fun t h1 h2 => q t (by omega) h2), fun q => ih2 (fun w => q (fun t h1 h2 => ?_))⟩
      rcases Nat.lt_or_eq_of_le h1 with w1 | w1
      · exact w t w1 h2
      · rw [← w1]; exact g
    · rw [if_neg (by rw [zn_lt (by omega) (by omega)]; exact g)]
      exact ⟨fun q => absurd (q k (Nat.le_refl _) hkt) g, fun _ => rfl⟩
theorem ms_road1z (h : CY 83 C M) (hb : RvY 73 A M) (hA : OKA C A) {n : Nat} (h6 : n ≤ 6) (Kc : PM → Option (Int32 × PM)) : ((∀ t, 0 ≤ t → t < C.nt → atN A t < n) → m_road_L19 (zn n) Kc FU 0 M = Kc M) ∧ ((¬ ∀ t, 0 ≤ t → t < C.nt → atN A t < n) → m_road_L19 (zn n) Kc FU 0 M = some (-1, M)) := ms_road1 h hb hA h6 Kc C.nt 0 FU (by omega) (FU_lt (by have := h.ok.nt4; omega))
theorem ms_road2z (h : CY 83 C M) {n : Nat} (h6 : n ≤ 6) (Kc : PM → Option (Int32 × PM)) : ((∀ t, 0 ≤ t → t < C.ne → C.wh t < n) → m_road_L47 (zn n) Kc FU 0 M = Kc M) ∧ ((¬ ∀ t, 0 ≤ t → t < C.ne → C.wh t < n) → m_road_L47 (zn n) Kc FU 0 M = some (-1, M)) := ms_road2 h h6 Kc C.ne 0 FU (by omega) (FU_lt (by have := h.ok.ne8; omega))
theorem ms_rdBook (ha : RvY 73 A M) {n : Nat} (h1 : 1 ≤ n) (h6 : n ≤ 6) (c3 : Int32) (Kc : PM → Option (Int32 × PM)) : ∃ M1, m_road_L91 c3 Kc FU (5 * zn n) M = Kc M1 ∧ Fq (fun o _ => o = 73) M M1 ∧ RvY 73 (rdA A n) M1 := by
  rw [zn_mull]
  have := wlp (fun m k (_ : Unit) M2 => m_road_L91 c3 Kc m (zn (5 * n + k)) M2) (30 - 5 * n) FU (FU_lt (by omega)) (fun _ s => s) () (fun k M2 => Fq (fun o _ => o = 73) M M2 ∧ ∀ j, j < 44 → M2.i 73 j = if 14 + 5 * n ≤ j ∧ j < 14 + 5 * n + k then 0 else A j) (fun o => ∃ M1, o = Kc M1 ∧ Fq (fun o _ => o = 73) M M1 ∧ RvY 73 (rdA A n) M1) (fun m k M2 hk hI => ?_) (fun m M2 hI => ?_) M ⟨Fq.rf, fun j hj => by rw [if_neg (by omega)]; exact ha j hj⟩
  · exact this
  · obtain ⟨f, i1⟩ := hI
    refine ⟨M2.si 73 (14 + (5 * n + k)) 0, ⟨Fq.si (c := fun o _ => o = 73) f rfl, fun j hj => ?_⟩, ?_⟩
    · rw [si_i]
      by_cases e : j = 14 + (5 * n + k)
      · rw [if_pos ⟨rfl, e⟩, if_pos (by omega)]
      · rw [if_neg (by omega), i1 j hj]
        by_cases g : 14 + 5 * n ≤ j ∧ j < 14 + 5 * n + k
        · rw [if_pos g, if_pos (by omega)]
        · rw [if_neg g, if_neg (by omega)]
    · show m_road_L91 c3 Kc (m + 1) (zn (5 * n + k)) M2 = m_road_L91 c3 Kc m (zn (5 * n + (k + 1))) _
      rw [m_road_L91, if_neg (by rw [l_le_zn (by omega) (by omega)]; omega), zn_ladd, ck_zn (by omega) (by omega), ix_zn (by omega), lt_u, lt_u, zn_addl, Nat.add_assoc (5 * n)]
  · obtain ⟨f, i1⟩ := hI
    refine ⟨M2, ?_, f, fun k hk => ?_⟩
    · show m_road_L91 c3 Kc (m + 1) (zn (5 * n + (30 - 5 * n))) M2 = _
      rw [m_road_L91, if_pos (by rw [l_le_zn (by omega) (by omega)]; omega)]
    · unfold rdA
      rw [i1 k hk]
      by_cases g : 14 + 5 * n ≤ k ∧ k < 44
      · rw [if_pos (by omega), if_pos g]
      · rw [if_neg (by omega), if_neg g]
theorem mt_in16 {n : Nat} (h1 : 1 ≤ n) (h6 : n ≤ 6) (M : PM) : m_in (zn n) 1 6 M = some (1, M) := by
  rw [m_in32, if_pos ⟨by rw [l_le_zn (by omega) (by omega)]; exact h1, by rw [zn_le_l (by omega) (by omega)]; exact h6⟩]
theorem ys_road (h : YS C A nT bT nU U ch K l M) (hA : OKA C A) {n : Nat} (h1 : 1 ≤ n) (h6 : n ≤ 6) (hk : rdOk C A n) : ∃ M1, m_road (zn n) M = some (zn C.ns, M1) ∧ Fq gyc M M1 ∧ YS (C.road n) (rdA A n) nT bT 0 U (ch + 1) K l M1 := by
  have h' := h.q f13.yt (h.t.fr f13 (by unfold yq ts; omega) (fun j => by unfold yq ts; omega)) (ly13 h.ly)
  have f0 : Fq gyc M (M.si 72 13 0) := f13.yt.gy
  obtain ⟨N, hN⟩ : ∃ N, N = M.si 72 13 0 := ⟨_, rfl⟩
  rw [← hN] at h' f0
  obtain ⟨M1, hM1⟩ : ∃ M1, M1 = N.si 72 1 (zn n) := ⟨_, rfl⟩
  have f1 : Fq (fun o j => o = 72 ∧ j = 1) N M1 := by rw [hM1]; exact Fq.si (c := fun o j => o = 72 ∧ j = 1) Fq.rf ⟨rfl, rfl⟩
  obtain ⟨M2, e2, f2, a2⟩ := ms_rdBook (M := M1) (h'.b.fr f1 (fun j => by omega)) h1 h6 (zn C.ns) (fun (M10 : PM) => lt (M10.si 72 29 0) fun M11 => lt (M11.si 72 52 ((M11.i 72 52) + 1)) fun M12 => some (zn C.ns, M12))
  have f : Fq (fun o j => (o = 72 ∧ j = 1) ∨ o = 73) N M2 := (f1.mo (d := fun o j => (o = 72 ∧ j = 1) ∨ o = 73) (fun o j q => Or.inl q)).tr (f2.mo (d := fun o j => (o = 72 ∧ j = 1) ∨ o = 73) (fun o j q => Or.inr q))
  have x2 : CY 83 (C.road n) M2 := by
    refine ⟨⟨h'.y.sh.fr f (by decide +kernel), ok_road h'.y.ok h1 h6 hk.2⟩, ⟨?_, ?_, ?_, ?_⟩, h'.y.w f (fun o j q1 q2 => by omega), h'.y.e f (fun j => by omega), h'.y.ru.fr f (fun o j q => by omega)⟩
    · rw [f2.i _ _ (by omega), hM1, si_i, if_pos ⟨rfl, rfl⟩]; rfl
    · rw [f.i _ _ (by omega)]; exact h'.y.nw
    · rw [f.i _ _ (by omega)]; exact h'.y.nt
    · rw [f.i _ _ (by omega)]; exact h'.y.ne
  obtain ⟨e3, f3, s3⟩ := h'.new f (fun o j q => by omega) x2 a2 (h'.t.fr f (by omega) (fun j => by omega)) (h'.ly.fr f (by omega) (fun j => by omega))
  have ff : Fq gyc M _ := (f0.tr (f.mo (d := gyc) (fun o j q => Or.inl (by omega)))).tr (f3.mo (d := gyc) (fun o j q => Or.inl (by unfold isy at q; omega)))
  refine ⟨_, ?_, ff, s3⟩
  unfold m_road
  rw [lt_u, bde (mt_in16 h1 h6 _), if_neg (by decide), ← hN, (ms_road1z h'.y h'.b hA h6 _).1 (fun t _ q => hk.1 t q), (ms_road2z h'.y h6 _).1 (fun t _ q => hk.2 t q), h'.y.ns, lt_u, lt_u, lt_u, ← hM1]
  refine e2.trans ?_
  show lt _ _ = _
  rw [lt_u, show (M2.si 72 29 0).i 72 52 = zn ch from e3, zn_addl, lt_u]
theorem ms_roadN (h : YS C A nT bT nU U ch K l M) (hA : OKA C A) {p : Int32} (hp : ∀ n, 1 ≤ n → n ≤ 6 → p = zn n → ¬ rdOk C A n) : m_road p M = some (-1, M.si 72 13 0) := by
  have h' := h.q f13.yt (h.t.fr f13 (by unfold yq ts; omega) (fun j => by unfold yq ts; omega)) (ly13 h.ly)
  unfold m_road
  rcases d1_or (n := 6) (by omega) p with ⟨n, h1, h6, rfl⟩ | w
  · have hk := hp n h1 h6 rfl
    rw [lt_u, bde (mt_in16 h1 h6 _), if_neg (by decide)]
    by_cases g : ∀ t, 0 ≤ t → t < C.nt → atN A t < n
    · rw [(ms_road1z h'.y h'.b hA h6 _).1 g, (ms_road2z h'.y h6 _).2]
      exact fun q => hk ⟨fun t ht => g t (by omega) ht, fun e he => q e (by omega) he⟩
    · rw [(ms_road1z h'.y h'.b hA h6 _).2 g]
  · rw [lt_u, bde (show m_in p 1 6 (M.si 72 13 0) = some (0, M.si 72 13 0) from by rw [m_in32, if_neg (show ¬ (1 ≤ p ∧ p ≤ 6) from w)]), if_pos rfl]
theorem call_road (p : Int32) : CallN (x_road p) (m_road p) := by
  refine CallN.xy (fun C A nT bT nU U ch K l hC hA h15 hch ht => ?_)
  by_cases g : ∃ n, 1 ≤ n ∧ n ≤ 6 ∧ p = zn n ∧ rdOk C A n
  · obtain ⟨n, h1, h6, rfl, hk⟩ := g
    exact ⟨zn C.ns, C.road n, rdA A n, nT, bT, 0, U, ch + 1, K, l, Nat.le_refl _, h15, fun M h => xs_road h hch h1 h6 hk, fun M h => ys_road h hA h1 h6 hk⟩
  · have g2 : ∀ n, 1 ≤ n → n ≤ 6 → p = zn n → ¬ rdOk C A n := fun n h1 h6 e hk => g ⟨n, h1, h6, e, hk⟩
    exact ⟨-1, C, A, nT, bT, nU, U, ch, K, l, by omega, h15, fun M h => ⟨M, xs_roadN h g2, (Fq.rf (c := xqt)).gx, h, by omega, by omega⟩, fun M h => ⟨M.si 72 13 0, ms_roadN h hA g2, f13.yt.gy, h.q f13.yt (h.t.fr f13 (by unfold yq ts; omega) (fun j => by unfold yq ts; omega)) (ly13 h.ly)⟩⟩
end
