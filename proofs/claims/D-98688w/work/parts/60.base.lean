set_option maxRecDepth 100000
/-! NUMBERS: a natural number as an int -/
def zn (k : Nat) : Int32 := Int32.ofNat k
theorem zn_int {k : Nat} (h : k < 2147483648) : (zn k).toInt = (k : Int) := Int32.toInt_ofNat_of_lt h
theorem ix_zn {k : Nat} (h : k < 2147483648) : ix (zn k) = k := Int32.toNatClampNeg_ofNat_of_lt h
theorem zn_add (a b : Nat) : zn a + zn b = zn (a + b) := (Int32.ofNat_add a b).symm
theorem zn_mul (a b : Nat) : zn a * zn b = zn (a * b) := (Int32.ofNat_mul a b).symm
theorem zn_sub {a b : Nat} (h : b ≤ a) : zn a - zn b = zn (a - b) := (Int32.ofNat_sub a b h).symm
theorem zn_lit (n : Nat) : (no_index (OfNat.ofNat n) : Int32) = zn (OfNat.ofNat n : Nat) := rfl
theorem zn_addl (a n : Nat) : zn a + (no_index (OfNat.ofNat n) : Int32) = zn (a + (OfNat.ofNat n : Nat)) := zn_add a n
theorem zn_ladd (a n : Nat) : (no_index (OfNat.ofNat n) : Int32) + zn a = zn ((OfNat.ofNat n : Nat) + a) := zn_add n a
theorem zn_mull (a n : Nat) : (no_index (OfNat.ofNat n) : Int32) * zn a = zn ((OfNat.ofNat n : Nat) * a) := zn_mul n a
theorem zn_subl {a n : Nat} (h : (OfNat.ofNat n : Nat) ≤ a) : zn a - (no_index (OfNat.ofNat n) : Int32) = zn (a - (OfNat.ofNat n : Nat)) := zn_sub h
theorem zn_le {a b : Nat} (ha : a < 2147483648) (hb : b < 2147483648) : (zn a ≤ zn b) = (a ≤ b) := propext (Int32.ofNat_le_iff_le ha hb)
theorem zn_lt {a b : Nat} (ha : a < 2147483648) (hb : b < 2147483648) : (zn a < zn b) = (a < b) := propext (Int32.ofNat_lt_iff_lt ha hb)
theorem zn_inj {a b : Nat} (ha : a < 2147483648) (hb : b < 2147483648) (h : zn a = zn b) : a = b := by
  have := congrArg ix h
  rwa [ix_zn ha, ix_zn hb] at this
theorem zn_eq {a b : Nat} (ha : a < 2147483648) (hb : b < 2147483648) : (zn a = zn b) = (a = b) := propext ⟨zn_inj ha hb, fun h => by rw [h]⟩
theorem zn_le_l {a n : Nat} (ha : a < 2147483648) (hn : (OfNat.ofNat n : Nat) < 2147483648) : (zn a ≤ (no_index (OfNat.ofNat n) : Int32)) = (a ≤ (OfNat.ofNat n : Nat)) := zn_le ha hn
theorem l_le_zn {a n : Nat} (ha : a < 2147483648) (hn : (OfNat.ofNat n : Nat) < 2147483648) : ((no_index (OfNat.ofNat n) : Int32) ≤ zn a) = ((OfNat.ofNat n : Nat) ≤ a) := zn_le hn ha
theorem zn_lt_l {a n : Nat} (ha : a < 2147483648) (hn : (OfNat.ofNat n : Nat) < 2147483648) : (zn a < (no_index (OfNat.ofNat n) : Int32)) = (a < (OfNat.ofNat n : Nat)) := zn_lt ha hn
theorem l_lt_zn {a n : Nat} (ha : a < 2147483648) (hn : (OfNat.ofNat n : Nat) < 2147483648) : ((no_index (OfNat.ofNat n) : Int32) < zn a) = ((OfNat.ofNat n : Nat) < a) := zn_lt hn ha
theorem zn_eq_l {a n : Nat} (ha : a < 2147483648) (hn : (OfNat.ofNat n : Nat) < 2147483648) : (zn a = (no_index (OfNat.ofNat n) : Int32)) = (a = (OfNat.ofNat n : Nat)) := zn_eq ha hn
theorem l_eq_zn {a n : Nat} (ha : a < 2147483648) (hn : (OfNat.ofNat n : Nat) < 2147483648) : ((no_index (OfNat.ofNat n) : Int32) = zn a) = ((OfNat.ofNat n : Nat) = a) := zn_eq hn ha
theorem m1_int : (-1 : Int32).toInt = -1 := by decide
theorem l_eq_l {a n : Nat} (ha : (OfNat.ofNat a : Nat) < 2147483648) (hn : (OfNat.ofNat n : Nat) < 2147483648) : ((no_index (OfNat.ofNat a) : Int32) = (no_index (OfNat.ofNat n) : Int32)) = ((OfNat.ofNat a : Nat) = (OfNat.ofNat n : Nat)) := zn_eq ha hn
theorem zn_nonneg {a : Nat} (ha : a < 2147483648) : (0 : Int32) ≤ zn a := by
  rw [Int32.le_iff_toInt_le, zn_int ha]
  show (0 : Int) ≤ _
  omega
theorem zn_eq_m {a : Nat} (ha : a < 2147483648) : (zn a = (-1 : Int32)) = False := by
  apply eq_false
  intro h
  have := congrArg Int32.toInt h
  rw [zn_int ha, m1_int] at this
  omega
theorem m_eq_zn {a : Nat} (ha : a < 2147483648) : ((-1 : Int32) = zn a) = False := by
  apply eq_false
  intro h
  have := congrArg Int32.toInt h
  rw [zn_int ha, m1_int] at this
  omega
theorem m_eq_l {n : Nat} (hn : (OfNat.ofNat n : Nat) < 2147483648) : ((-1 : Int32) = (no_index (OfNat.ofNat n) : Int32)) = False := m_eq_zn hn
theorem l_eq_m {n : Nat} (hn : (OfNat.ofNat n : Nat) < 2147483648) : ((no_index (OfNat.ofNat n) : Int32) = (-1 : Int32)) = False := zn_eq_m hn
theorem m_le_zn {a : Nat} (ha : a < 2147483648) : ((-1 : Int32) ≤ zn a) = True := by
  apply eq_true
  rw [Int32.le_iff_toInt_le, zn_int ha, m1_int]
  omega
theorem zn_lt_m {a : Nat} (ha : a < 2147483648) : (zn a < (-1 : Int32)) = False := by
  apply eq_false
  rw [Int32.lt_iff_toInt_lt, zn_int ha, m1_int]
  omega
theorem zn_le_m {a : Nat} (ha : a < 2147483648) : (zn a ≤ (-1 : Int32)) = False := by
  apply eq_false
  rw [Int32.le_iff_toInt_le, zn_int ha, m1_int]
  omega
theorem imin_zn {a b : Nat} (ha : a < 2147483648) (hb : b < 2147483648) : imin (zn a) (zn b) = zn (min a b) := by
  unfold imin
  simp only [zn_lt hb ha]
  split
  · rw [Nat.min_eq_right (by omega)]
  · rw [Nat.min_eq_left (by omega)]
theorem imax_zn {a b : Nat} (ha : a < 2147483648) (hb : b < 2147483648) : imax (zn a) (zn b) = zn (max a b) := by
  unfold imax
  simp only [zn_lt ha hb]
  split
  · rw [Nat.max_eq_right (by omega)]
  · rw [Nat.max_eq_left (by omega)]
theorem zn_ix {p : Int32} (h : 0 ≤ p) : zn (ix p) = p := Int32.ofNat_toNatClampNeg p h
theorem ix_lt (p : Int32) : ix p < 2147483648 := Int32.toNatClampNeg_lt p
theorem ix_l (n : Nat) (hn : (OfNat.ofNat n : Nat) < 2147483648) : ix (no_index (OfNat.ofNat n) : Int32) = (OfNat.ofNat n : Nat) := ix_zn hn
theorem ck_zn {α : Type} {a n : Nat} {x : Option α} (h : a < n) (ha : a < 2147483648) : ck (zn a) n x = x := by
  unfold ck
  rw [if_neg]
  rintro (q | q)
  · have := zn_nonneg ha
    exact absurd q (Int32.not_lt.mpr this)
  · rw [ix_zn ha] at q
    omega
theorem ck_l {α : Type} {a n : Nat} {x : Option α} (h : (OfNat.ofNat a : Nat) < n) (ha : (OfNat.ofNat a : Nat) < 2147483648) : ck (no_index (OfNat.ofNat a) : Int32) n x = x := ck_zn h ha
/-- an argument within 0 .. n-1, or not -/
theorem dm_or {n : Nat} (hn : n < 2147483648) (p : Int32) : (∃ w, w < n ∧ p = zn w) ∨ ¬ (0 ≤ p ∧ p ≤ zn n - 1) := by
  by_cases h : 0 ≤ p ∧ p ≤ zn n - 1
  · left
    refine ⟨ix p, ?_, (zn_ix h.1).symm⟩
    have h2 := h.2
    rcases Nat.eq_zero_or_pos n with e | e
    · subst e
      exfalso
      have h1 := h.1
      rw [Int32.le_iff_toInt_le] at h1 h2
      have e1 : (zn 0 - 1 : Int32).toInt = -1 := by decide
      have e0 : (0 : Int32).toInt = 0 := by decide
      omega
    · have e2 : (zn n - 1 : Int32) = zn (n - 1) := zn_subl (n := 1) e
      rw [e2, ← zn_ix h.1, zn_le (ix_lt p) (by omega)] at h2
      omega
  · exact Or.inr h
theorem dm_t {w n : Nat} (hw : w < n) (hn : n < 2147483648) : (0 ≤ zn w ∧ zn w ≤ zn n - 1) = True := by
  have e2 : (zn n - 1 : Int32) = zn (n - 1) := zn_subl (n := 1) (show 1 ≤ n by omega)
  rw [e2]
  exact eq_true ⟨zn_nonneg (by omega), by rw [zn_le (by omega) (by omega)]; omega⟩
theorem dl_or {n : Nat} (hn : n < 2147483648) (p : Int32) : (∃ w, w ≤ n ∧ p = zn w) ∨ ¬ (0 ≤ p ∧ p ≤ zn n) := by
  by_cases h : 0 ≤ p ∧ p ≤ zn n
  · left
    refine ⟨ix p, ?_, (zn_ix h.1).symm⟩
    have h2 := h.2
    rw [← zn_ix h.1, zn_le (ix_lt p) hn] at h2
    exact h2
  · exact Or.inr h
theorem d1_or {n : Nat} (hn : n < 2147483648) (p : Int32) : (∃ w, 1 ≤ w ∧ w ≤ n ∧ p = zn w) ∨ ¬ (1 ≤ p ∧ p ≤ zn n) := by
  by_cases h : 1 ≤ p ∧ p ≤ zn n
  · left
    have h0 : 0 ≤ p := Int32.le_trans (by decide) h.1
    have h1 := h.1
    have h2 := h.2
    rw [← zn_ix h0, zn_le (ix_lt p) hn] at h2
    rw [← zn_ix h0] at h1
    have h3 : (zn 1 ≤ zn (ix p)) := h1
    rw [zn_le (by omega) (ix_lt p)] at h3
    exact ⟨ix p, h3, h2, (zn_ix h0).symm⟩
  · exact Or.inr h
/-! rows that simp must not use by unfolding (the kernel would compare whole memories) -/
theorem vsi_n (M : PM) (o j : Nat) (v : Int32) : (M.si o j v).n = M.n := by
  have h := si_n M o j v
  exact h
theorem vsi_w (M : PM) (o j : Nat) (v : Int32) : (M.si o j v).w = M.w := by
  have h := si_w M o j v
  exact h
theorem vsi_k (M : PM) (o j : Nat) (v : Int32) : (M.si o j v).k = M.k := by
  have h := si_k M o j v
  exact h
theorem vsi_i (M : PM) (o j : Nat) (v : Int32) (a b : Nat) : (M.si o j v).i a b = if a = o ∧ b = j then v else M.i a b := by
  have h := si_i M o j v a b
  exact h
theorem vsi_l (M : PM) (o j : Nat) (v : Int32) : (M.si o j v).l = M.l := by
  have h := si_l M o j v
  exact h
theorem vsi_r (M : PM) (o j : Nat) (v : Int32) : (M.si o j v).r = M.r := by
  have h := si_r M o j v
  exact h
theorem vsl_n (M : PM) (o j : Nat) (v : Int64) : (M.sl o j v).n = M.n := by
  have h := sl_n M o j v
  exact h
theorem vsl_w (M : PM) (o j : Nat) (v : Int64) : (M.sl o j v).w = M.w := by
  have h := sl_w M o j v
  exact h
theorem vsl_k (M : PM) (o j : Nat) (v : Int64) : (M.sl o j v).k = M.k := by
  have h := sl_k M o j v
  exact h
theorem vsl_i (M : PM) (o j : Nat) (v : Int64) : (M.sl o j v).i = M.i := by
  have h := sl_i M o j v
  exact h
theorem vsl_l (M : PM) (o j : Nat) (v : Int64) (a b : Nat) : (M.sl o j v).l a b = if a = o ∧ b = j then v else M.l a b := by
  have h := sl_l M o j v a b
  exact h
theorem vsl_r (M : PM) (o j : Nat) (v : Int64) : (M.sl o j v).r = M.r := by
  have h := sl_r M o j v
  exact h
theorem vsr_n (M : PM) (o j : Nat) (v : Option Nat) : (M.sr o j v).n = M.n := by
  have h := sr_n M o j v
  exact h
theorem vsr_w (M : PM) (o j : Nat) (v : Option Nat) : (M.sr o j v).w = M.w := by
  have h := sr_w M o j v
  exact h
theorem vsr_k (M : PM) (o j : Nat) (v : Option Nat) : (M.sr o j v).k = M.k := by
  have h := sr_k M o j v
  exact h
theorem vsr_i (M : PM) (o j : Nat) (v : Option Nat) : (M.sr o j v).i = M.i := by
  have h := sr_i M o j v
  exact h
theorem vsr_l (M : PM) (o j : Nat) (v : Option Nat) : (M.sr o j v).l = M.l := by
  have h := sr_l M o j v
  exact h
theorem vsr_r (M : PM) (o j : Nat) (v : Option Nat) (a b : Nat) : (M.sr o j v).r a b = if a = o ∧ b = j then v else M.r a b := by
  have h := sr_r M o j v a b
  exact h
theorem vci_n (M : PM) (a sp b dp n : Nat) : (M.ci a sp b dp n).n = M.n := by
  have h := ci_n M a sp b dp n
  exact h
theorem vci_w (M : PM) (a sp b dp n : Nat) : (M.ci a sp b dp n).w = M.w := by
  have h := ci_w M a sp b dp n
  exact h
theorem vci_k (M : PM) (a sp b dp n : Nat) : (M.ci a sp b dp n).k = M.k := by
  have h := ci_k M a sp b dp n
  exact h
theorem vci_l (M : PM) (a sp b dp n : Nat) : (M.ci a sp b dp n).l = M.l := by
  have h := ci_l M a sp b dp n
  exact h
theorem vci_r (M : PM) (a sp b dp n : Nat) : (M.ci a sp b dp n).r = M.r := by
  have h := ci_r M a sp b dp n
  exact h
theorem lt_u {α β : Type} (v : α) (f : α → β) : lt v f = f v := by
  have h : lt v f = f v := rfl
  exact h
theorem jn_u {α β : Type} (J : α) (f : α → β) : jn J f = f J := by
  have h : jn J f = f J := rfl
  exact h
/-! CONTROL -/
theorem bd_s {α β : Type} (a : α) (M : PM) (f : α → PM → Option β) : bd (some (a, M)) f = f a M := by
  have h : bd (some (a, M)) f = f a M := rfl
  exact h
theorem rf_s {α : Type} (a : Nat) (f : Nat → Option α) : rf (some a) f = f a := by
  have h : rf (some a) f = f a := rfl
  exact h
theorem nl_s {α : Type} (a : Nat) (x : α) (f : Nat → α) : nl (some a) x f = f a := by
  have h : nl (some a) x f = f a := rfl
  exact h
theorem nl_n {α : Type} (x : α) (f : Nat → α) : nl none x f = x := by
  have h : nl none x f = x := rfl
  exact h
theorem ckb_t {α : Type} {p : Prop} [Decidable p] {x : Option α} (h : p) : ckb p x = x := if_pos h
theorem ckb_T {α : Type} [Decidable True] {x : Option α} : ckb True x = x := if_pos trivial
theorem ckb01 {α : Type} {p : Prop} [Decidable p] {x : Option α} : ckb ((if p then (1 : Int32) else 0) = 0 ∨ (if p then (1 : Int32) else 0) = 1) x = x := by
  rw [ckb_t]
  split
  · exact Or.inr rfl
  · exact Or.inl rfl
theorem b01_0 {p : Prop} [Decidable p] : ((if p then (1 : Int32) else 0) = 0) = ¬ p := by
  by_cases h : p <;> simp [h]
theorem b01_1 {p : Prop} [Decidable p] : ((if p then (1 : Int32) else 0) = 1) = p := by
  by_cases h : p <;> simp [h]
theorem b10_0 {p : Prop} [Decidable p] : ((if p then (0 : Int32) else 1) = 0) = p := by
  by_cases h : p <;> simp [h]
theorem z_ne_o : ((0 : Int32) = 1) = False := by decide
theorem o_ne_z : ((1 : Int32) = 0) = False := by decide
theorem FU_lt {n : Nat} (h : n < 30000) : n < FU := h
theorem si_si (M : PM) (o j : Nat) (v w : Int32) : (M.si o j v).si o j w = M.si o j w := by
  show ((M.n, M.w), M.k, up2 (up2 M.i o j v) o j w, M.l, M.r) = ((M.n, M.w), M.k, up2 M.i o j w, M.l, M.r)
  have : up2 (up2 M.i o j v) o j w = up2 M.i o j w := by
    funext a b
    unfold up2
    split <;> rfl
  rw [this]
theorem si_id (M : PM) (o j : Nat) : M.si o j (M.i o j) = M := by
  have : up2 M.i o j (M.i o j) = M.i := by
    funext a b
    unfold up2
    split
    · rename_i h; rw [h.1, h.2]
    · rfl
  show ((M.n, M.w), M.k, up2 M.i o j (M.i o j), M.l, M.r) = M
  rw [this]
  rfl
theorem n24_z : ¬ (24 : Int32) = 0 := by decide
theorem ckb24 {α : Type} {x : Option α} : ckb (¬ (24 : Int32) = 0) x = x := if_pos n24_z
theorem n256_z : ¬ (256 : Int32) = 0 := by decide
theorem ckb256 {α : Type} {x : Option α} : ckb (¬ (256 : Int32) = 0) x = x := if_pos n256_z
/-! LOOPS -/
def itr {σ : Type} (f : Nat → σ → σ) : Nat → σ → σ
  | 0, s => s
  | n + 1, s => f n (itr f n s)
theorem itr_s {σ : Type} (f : Nat → σ → σ) (n : Nat) (s : σ) : itr f (n + 1) s = f n (itr f n s) := rfl
theorem itr_congr {σ : Type} {f g : Nat → σ → σ} {n : Nat} {s : σ} (h : ∀ k, k < n → ∀ a, f k a = g k a) : itr f n s = itr g n s := by
  induction n with
  | zero => rfl
  | succ n ih =>
    rw [itr_s, itr_s, ih (fun k hk a => h k (by omega) a), h n (by omega)]
/-- two loops in step -/
theorem itr_rel {σ τ : Type} {f : Nat → σ → σ} {g : Nat → τ → τ} {n : Nat} {s : σ} {t : τ} (R : Nat → σ → τ → Prop) (h0 : R 0 s t) (h : ∀ k, k < n → ∀ a b, R k a b → R (k + 1) (f k a) (g k b)) : R n (itr f n s) (itr g n t) := by
  induction n with
  | zero => exact h0
  | succ n ih => exact h n (by omega) _ _ (ih (fun k hk a b => h k (by omega) a b))
theorem itr_inv {σ : Type} {f : Nat → σ → σ} {n : Nat} {s : σ} (R : Nat → σ → Prop) (h0 : R 0 s) (h : ∀ k, k < n → ∀ a, R k a → R (k + 1) (f k a)) : R n (itr f n s) := by
  induction n with
  | zero => exact h0
  | succ n ih => exact h n (by omega) _ (ih (fun k hk a => h k (by omega) a))
theorem nlp {σ β : Type} (L : Nat → Nat → σ → Option β) (N F : Nat) (hF : N < F) (f : Nat → σ → σ) (s0 : σ) (K : Option β)
    (hs : ∀ n k, k < N → L (n + 1) k (itr f k s0) = L n (k + 1) (f k (itr f k s0))) (he : ∀ n, L (n + 1) N (itr f N s0) = K) : L F 0 s0 = K := by
  have h : ∀ d k, k + d = N → ∀ n, d < n → L n k (itr f k s0) = K := by
    intro d
    induction d with
    | zero =>
      intro k hk n hn
      obtain ⟨m, rfl⟩ : ∃ m, n = m + 1 := ⟨n - 1, by omega⟩
      have e : k = N := by omega
      subst e
      exact he m
    | succ d ih =>
      intro k hk n hn
      obtain ⟨m, rfl⟩ : ∃ m, n = m + 1 := ⟨n - 1, by omega⟩
      rw [hs m k (by omega)]
      exact ih (k + 1) (by omega) m (by omega)
  exact h N 0 (by omega) F hF
theorem wlp {σ β : Type} (L : Nat → Nat → σ → PM → Option β) (N F : Nat) (hF : N < F) (f : Nat → σ → σ) (s0 : σ) (I : Nat → PM → Prop) (R : Option β → Prop)
    (hs : ∀ n k M, k < N → I k M → ∃ M', I (k + 1) M' ∧ L (n + 1) k (itr f k s0) M = L n (k + 1) (f k (itr f k s0)) M') (he : ∀ n M, I N M → R (L (n + 1) N (itr f N s0) M)) (M : PM) (h0 : I 0 M) : R (L F 0 s0 M) := by
  have h : ∀ d k, k + d = N → ∀ n M, d < n → I k M → R (L n k (itr f k s0) M) := by
    intro d
    induction d with
    | zero =>
      intro k hk n M hn hI
      obtain ⟨m, rfl⟩ : ∃ m, n = m + 1 := ⟨n - 1, by omega⟩
      have e : k = N := by omega
      subst e
      exact he m M hI
    | succ d ih =>
      intro k hk n M hn hI
      obtain ⟨m, rfl⟩ : ∃ m, n = m + 1 := ⟨n - 1, by omega⟩
      obtain ⟨M', h1, h2⟩ := hs m k M (by omega) hI
      rw [h2]
      exact ih (k + 1) (by omega) m M' (by omega) h1
  exact h N 0 (by omega) F M hF h0
/-! ARGUMENTS WITHIN BOUNDS -/
theorem lgc_lt (a b : Int32) : (lg_cmp a.toInt64 b.toInt64 < 0) = (a < b) := by
  unfold lg_cmp
  simp only [gt_iff_lt, Int32.toInt64_lt]
  by_cases h : b < a
  · rw [if_pos h]
    have h2 : ¬ a < b := Int32.not_lt.mpr (Int32.le_of_lt h)
    simp only [h2]; decide
  · rw [if_neg h]
    by_cases e : a = b
    · rw [if_pos (by rw [e])]
      have h2 : ¬ a < b := by rw [e]; exact Int32.lt_irrefl
      simp only [h2]; decide
    · rw [if_neg (fun q => e (Int32.toInt_inj.mp (by have := congrArg Int64.toInt q; rwa [Int32.toInt_toInt64, Int32.toInt_toInt64] at this)))]
      have h2 : a < b := by
        rcases Int32.lt_or_lt_of_ne e with q | q
        · exact q
        · exact absurd q h
      simp only [h2]; decide
theorem lgc_gt (a b : Int32) : (0 < lg_cmp a.toInt64 b.toInt64) = (b < a) := by
  unfold lg_cmp
  simp only [gt_iff_lt, Int32.toInt64_lt]
  by_cases h : b < a
  · rw [if_pos h]
    simp only [h]; decide
  · rw [if_neg h]
    simp only [h]
    split <;> decide
theorem x_in32 (p q r : Int32) (M : PM) : x_in p.toInt64 q.toInt64 r.toInt64 M = some (if q ≤ p ∧ p ≤ r then 1 else 0, M) := by
  unfold x_in
  simp only [lgc_lt, lgc_gt]
  by_cases h : p < q
  · rw [if_pos h, if_neg (fun g => Int32.not_lt.mpr g.1 h)]
  · rw [if_neg h]
    by_cases g : r < p
    · rw [if_pos g, if_neg (fun k => Int32.not_lt.mpr k.2 g)]
    · rw [if_neg g, if_pos ⟨Int32.not_lt.mp h, Int32.not_lt.mp g⟩]
theorem m_in32 (p q r : Int32) (M : PM) : m_in p q r M = some (if q ≤ p ∧ p ≤ r then 1 else 0, M) := by
  unfold m_in
  by_cases h : p < q
  · rw [if_pos h, if_neg (fun g => Int32.not_lt.mpr g.1 h)]
  · rw [if_neg h]
    by_cases g : r < p
    · rw [if_pos g, if_neg (fun k => Int32.not_lt.mpr k.2 g)]
    · rw [if_neg g, if_pos ⟨Int32.not_lt.mp h, Int32.not_lt.mp g⟩]
theorem x_in0 (p r : Int32) (M : PM) : x_in p.toInt64 0 r.toInt64 M = some (if 0 ≤ p ∧ p ≤ r then 1 else 0, M) := x_in32 p 0 r M
theorem x_in_03 (p : Int32) (M : PM) : x_in p.toInt64 0 3 M = some (if 0 ≤ p ∧ p ≤ 3 then 1 else 0, M) := x_in32 p 0 3 M
theorem x_in_08 (p : Int32) (M : PM) : x_in p.toInt64 0 8 M = some (if 0 ≤ p ∧ p ≤ 8 then 1 else 0, M) := x_in32 p 0 8 M
theorem x_in_04 (p : Int32) (M : PM) : x_in p.toInt64 0 4 M = some (if 0 ≤ p ∧ p ≤ 4 then 1 else 0, M) := x_in32 p 0 4 M
theorem x_in_01 (p : Int32) (M : PM) : x_in p.toInt64 0 1 M = some (if 0 ≤ p ∧ p ≤ 1 then 1 else 0, M) := x_in32 p 0 1 M
theorem x_in_02 (p : Int32) (M : PM) : x_in p.toInt64 0 2 M = some (if 0 ≤ p ∧ p ≤ 2 then 1 else 0, M) := x_in32 p 0 2 M
theorem x_in_06 (p : Int32) (M : PM) : x_in p.toInt64 0 6 M = some (if 0 ≤ p ∧ p ≤ 6 then 1 else 0, M) := x_in32 p 0 6 M
theorem x_in_09 (p : Int32) (M : PM) : x_in p.toInt64 0 9 M = some (if 0 ≤ p ∧ p ≤ 9 then 1 else 0, M) := x_in32 p 0 9 M
theorem x_in_010 (p : Int32) (M : PM) : x_in p.toInt64 0 10 M = some (if 0 ≤ p ∧ p ≤ 10 then 1 else 0, M) := x_in32 p 0 10 M
theorem x_in_012 (p : Int32) (M : PM) : x_in p.toInt64 0 12 M = some (if 0 ≤ p ∧ p ≤ 12 then 1 else 0, M) := x_in32 p 0 12 M
theorem x_in_099 (p : Int32) (M : PM) : x_in p.toInt64 0 99 M = some (if 0 ≤ p ∧ p ≤ 99 then 1 else 0, M) := x_in32 p 0 99 M
theorem x_in_09999 (p : Int32) (M : PM) : x_in p.toInt64 0 9999 M = some (if 0 ≤ p ∧ p ≤ 9999 then 1 else 0, M) := x_in32 p 0 9999 M
theorem x_in_19999 (p : Int32) (M : PM) : x_in p.toInt64 1 9999 M = some (if 1 ≤ p ∧ p ≤ 9999 then 1 else 0, M) := x_in32 p 1 9999 M
theorem x_in_160 (p : Int32) (M : PM) : x_in p.toInt64 1 60 M = some (if 1 ≤ p ∧ p ≤ 60 then 1 else 0, M) := x_in32 p 1 60 M
theorem x_in_dg (p : Int32) (M : PM) : x_in p.toInt64 48 57 M = some (if 48 ≤ p ∧ p ≤ 57 then 1 else 0, M) := x_in32 p 48 57 M
theorem x_in_r6 (p q : Int32) (M : PM) : x_in p.toInt64 q.toInt64 6 M = some (if q ≤ p ∧ p ≤ 6 then 1 else 0, M) := x_in32 p q 6 M
/-! FRAMES: what isn't in the class c is as it was -/
def Fq (c : Nat → Nat → Prop) (M M' : PM) : Prop := M'.n = M.n ∧ M'.w = M.w ∧ M'.k = M.k ∧ ∀ o j, ¬ c o j → M'.i o j = M.i o j ∧ M'.l o j = M.l o j ∧ M'.r o j = M.r o j
theorem Fq.rf {c : Nat → Nat → Prop} {M : PM} : Fq c M M := ⟨rfl, rfl, rfl, fun _ _ _ => ⟨rfl, rfl, rfl⟩⟩
theorem Fq.tr {c : Nat → Nat → Prop} {M M1 M2 : PM} (h : Fq c M M1) (g : Fq c M1 M2) : Fq c M M2 :=
  ⟨g.1.trans h.1, g.2.1.trans h.2.1, g.2.2.1.trans h.2.2.1, fun o j q => ⟨(g.2.2.2 o j q).1.trans (h.2.2.2 o j q).1, (g.2.2.2 o j q).2.1.trans (h.2.2.2 o j q).2.1, (g.2.2.2 o j q).2.2.trans (h.2.2.2 o j q).2.2⟩⟩
theorem Fq.mo {c d : Nat → Nat → Prop} {M M' : PM} (h : Fq c M M') (hc : ∀ o j, c o j → d o j) : Fq d M M' :=
  ⟨h.1, h.2.1, h.2.2.1, fun o j q => h.2.2.2 o j (fun g => q (hc o j g))⟩
theorem Fq.i {c : Nat → Nat → Prop} {M M' : PM} (h : Fq c M M') (o j : Nat) (q : ¬ c o j) : M'.i o j = M.i o j := (h.2.2.2 o j q).1
theorem Fq.l {c : Nat → Nat → Prop} {M M' : PM} (h : Fq c M M') (o j : Nat) (q : ¬ c o j) : M'.l o j = M.l o j := (h.2.2.2 o j q).2.1
theorem Fq.r {c : Nat → Nat → Prop} {M M' : PM} (h : Fq c M M') (o j : Nat) (q : ¬ c o j) : M'.r o j = M.r o j := (h.2.2.2 o j q).2.2
theorem Fq.k {c : Nat → Nat → Prop} {M M' : PM} (h : Fq c M M') : M'.k = M.k := h.2.2.1
theorem Fq.si {c : Nat → Nat → Prop} {M M' : PM} {o j : Nat} {v : Int32} (h : Fq c M M') (hc : c o j) : Fq c M (M'.si o j v) := by
  refine h.tr ⟨rfl, rfl, rfl, fun a b q => ⟨?_, rfl, rfl⟩⟩
  rw [si_i, if_neg]
  rintro ⟨rfl, rfl⟩
  exact q hc
theorem Fq.sl {c : Nat → Nat → Prop} {M M' : PM} {o j : Nat} {v : Int64} (h : Fq c M M') (hc : c o j) : Fq c M (M'.sl o j v) := by
  refine h.tr ⟨rfl, rfl, rfl, fun a b q => ⟨rfl, ?_, rfl⟩⟩
  rw [sl_l, if_neg]
  rintro ⟨rfl, rfl⟩
  exact q hc
theorem Fq.sr {c : Nat → Nat → Prop} {M M' : PM} {o j : Nat} {v : Option Nat} (h : Fq c M M') (hc : c o j) : Fq c M (M'.sr o j v) := by
  refine h.tr ⟨rfl, rfl, rfl, fun a b q => ⟨rfl, rfl, ?_⟩⟩
  rw [sr_r, if_neg]
  rintro ⟨rfl, rfl⟩
  exact q hc
theorem Fq.ci {c : Nat → Nat → Prop} {M M' : PM} {a sp b dp n : Nat} (h : Fq c M M') (hc : ∀ j, dp ≤ j → j < dp + n → c b j) : Fq c M (M'.ci a sp b dp n) := by
  refine h.tr ⟨rfl, rfl, rfl, fun x y q => ⟨?_, rfl, rfl⟩⟩
  rw [ci_i]
  split
  · rename_i e
    subst e
    rw [if_neg]
    exact fun g => q (hc y g.1 g.2)
  · rfl
