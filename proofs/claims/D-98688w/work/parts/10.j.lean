/-! THE PURE MEMORY: n cells made and w slots made so far; of a cell its kind and length, its ints, longs, references by field number or index -/
def PM : Type := (Nat × Nat) × (Nat → Nat × Nat) × (Nat → Nat → Int32) × (Nat → Nat → Int64) × (Nat → Nat → Option Nat)
def PM.n (M : PM) : Nat := M.1.1
def PM.w (M : PM) : Nat := M.1.2
def PM.k (M : PM) : Nat → Nat × Nat := M.2.1
def PM.i (M : PM) : Nat → Nat → Int32 := M.2.2.1
def PM.l (M : PM) : Nat → Nat → Int64 := M.2.2.2.1
def PM.r (M : PM) : Nat → Nat → Option Nat := M.2.2.2.2
def up2 {α : Type} (f : Nat → Nat → α) (o j : Nat) (v : α) : Nat → Nat → α := fun a b => if a = o ∧ b = j then v else f a b
def up1 {α : Type} (f : Nat → α) (o : Nat) (v : α) : Nat → α := fun a => if a = o then v else f a
def PM.si (M : PM) (o j : Nat) (v : Int32) : PM := ((M.n, M.w), M.k, up2 M.i o j v, M.l, M.r)
def PM.sl (M : PM) (o j : Nat) (v : Int64) : PM := ((M.n, M.w), M.k, M.i, up2 M.l o j v, M.r)
def PM.sr (M : PM) (o j : Nat) (v : Option Nat) : PM := ((M.n, M.w), M.k, M.i, M.l, up2 M.r o j v)
/-- System.arraycopy of ints -/
def PM.ci (M : PM) (a sp b dp n : Nat) : PM := ((M.n, M.w), M.k, up1 M.i b (fun j => if dp ≤ j ∧ j < dp + n then M.i a (sp + (j - dp)) else M.i b j), M.l, M.r)
/-- a new cell -/
def PM.nw (M : PM) (c len w : Nat) : PM := ((M.n + 1, M.w + w), up1 M.k M.n (c, len), up1 M.i M.n (fun _ => 0), up1 M.l M.n (fun _ => 0), up1 M.r M.n (fun _ => none))
theorem si_n (M : PM) (o j v) : (M.si o j v).n = M.n := rfl
theorem si_w (M : PM) (o j v) : (M.si o j v).w = M.w := rfl
theorem si_k (M : PM) (o j v) : (M.si o j v).k = M.k := rfl
theorem si_l (M : PM) (o j v) : (M.si o j v).l = M.l := rfl
theorem si_r (M : PM) (o j v) : (M.si o j v).r = M.r := rfl
theorem si_i (M : PM) (o j v) (a b : Nat) : (M.si o j v).i a b = if a = o ∧ b = j then v else M.i a b := rfl
theorem sl_n (M : PM) (o j v) : (M.sl o j v).n = M.n := rfl
theorem sl_w (M : PM) (o j v) : (M.sl o j v).w = M.w := rfl
theorem sl_k (M : PM) (o j v) : (M.sl o j v).k = M.k := rfl
theorem sl_i (M : PM) (o j v) : (M.sl o j v).i = M.i := rfl
theorem sl_r (M : PM) (o j v) : (M.sl o j v).r = M.r := rfl
theorem sl_l (M : PM) (o j v) (a b : Nat) : (M.sl o j v).l a b = if a = o ∧ b = j then v else M.l a b := rfl
theorem sr_n (M : PM) (o j v) : (M.sr o j v).n = M.n := rfl
theorem sr_w (M : PM) (o j v) : (M.sr o j v).w = M.w := rfl
theorem sr_k (M : PM) (o j v) : (M.sr o j v).k = M.k := rfl
theorem sr_i (M : PM) (o j v) : (M.sr o j v).i = M.i := rfl
theorem sr_l (M : PM) (o j v) : (M.sr o j v).l = M.l := rfl
theorem sr_r (M : PM) (o j v) (a b : Nat) : (M.sr o j v).r a b = if a = o ∧ b = j then v else M.r a b := rfl
theorem ci_n (M : PM) (a sp b dp n) : (M.ci a sp b dp n).n = M.n := rfl
theorem ci_w (M : PM) (a sp b dp n) : (M.ci a sp b dp n).w = M.w := rfl
theorem ci_k (M : PM) (a sp b dp n) : (M.ci a sp b dp n).k = M.k := rfl
theorem ci_l (M : PM) (a sp b dp n) : (M.ci a sp b dp n).l = M.l := rfl
theorem ci_r (M : PM) (a sp b dp n) : (M.ci a sp b dp n).r = M.r := rfl
theorem ci_i (M : PM) (a sp b dp n) (x y : Nat) : (M.ci a sp b dp n).i x y = if x = b then (if dp ≤ y ∧ y < dp + n then M.i a (sp + (y - dp)) else M.i b y) else M.i x y := by
  show up1 M.i b _ x y = _
  unfold up1
  split <;> rfl
theorem nw_n (M : PM) (c len w) : (M.nw c len w).n = M.n + 1 := rfl
theorem nw_w (M : PM) (c len w) : (M.nw c len w).w = M.w + w := rfl
theorem nw_k (M : PM) (c len w) (a : Nat) : (M.nw c len w).k a = if a = M.n then (c, len) else M.k a := rfl
theorem nw_i (M : PM) (c len w) (a b : Nat) : (M.nw c len w).i a b = if a = M.n then 0 else M.i a b := by
  show up1 M.i M.n _ a b = _
  unfold up1
  split <;> rfl
theorem nw_l (M : PM) (c len w) (a b : Nat) : (M.nw c len w).l a b = if a = M.n then 0 else M.l a b := by
  show up1 M.l M.n _ a b = _
  unfold up1
  split <;> rfl
theorem nw_r (M : PM) (c len w) (a b : Nat) : (M.nw c len w).r a b = if a = M.n then none else M.r a b := by
  show up1 M.r M.n _ a b = _
  unfold up1
  split <;> rfl
/-! the pure programs' own words -/
/-- a name for a value -/
def lt {α β : Type} (v : α) (f : α → β) : β := f v
/-- a join -/
def jn {α β : Type} (J : α) (f : α → β) : β := f J
def ix (i : Int32) : Nat := i.toNatClampNeg
/-- an index within n -/
def ck {α : Type} (i : Int32) (n : Nat) (x : Option α) : Option α := if i < 0 ∨ n ≤ ix i then none else x
/-- an index within the array a of kind c -/
def cka {α : Type} (M : PM) (a c : Nat) (i : Int32) (x : Option α) : Option α := if (M.k a).1 = c then ck i (M.k a).2 x else none
/-- an object of kind c -/
def ckk {α : Type} (M : PM) (a c : Nat) (x : Option α) : Option α := if (M.k a).1 = c then x else none
def ckb {α : Type} (p : Prop) [Decidable p] (x : Option α) : Option α := if p then x else none
/-- a reference that isn't null -/
def rf {α : Type} (r : Option Nat) (f : Nat → Option α) : Option α := match r with
  | none => none
  | some a => f a
/-- a reference that may be null -/
def nl {α : Type} (r : Option Nat) (x : α) (f : Nat → α) : α := match r with
  | none => x
  | some a => f a
def bd {α β : Type} (x : Option (α × PM)) (f : α → PM → Option β) : Option β := match x with
  | none => none
  | some p => f p.1 p.2
/-! what the pure memory is in the machine -/
def En : Type := va_G × (Nat → ClassId) × (Nat → Nat) × Nat × (Nat → Nat)
def En.D (E : En) : va_G := E.1
def En.a (E : En) : Nat → ClassId := E.2.1
def En.ad (E : En) : Nat → Nat := E.2.2.1
def En.B (E : En) : Nat := E.2.2.2.1
def En.V (E : En) : Nat → Nat := E.2.2.2.2
def vwCl : List vw_C := [(RX1, TX1, 68), (RX2, TX2, 6), (RX3, TX3, 56), (RX5, TX5, 3), (RX6, TX6, 3), (RX7, TX7, 3), (RX8, TX8, 5)]
def fTy (c : Nat) : Nat → FieldType := match c with
  | 0 => tyX1
  | 1 => tyX2
  | 2 => tyX3
  | 3 => tyX5
  | 4 => tyX6
  | 5 => tyX7
  | _ => tyX8
def aTy (c : Nat) : FieldType := match c with
  | 20 => .int
  | 21 => .byte
  | 22 => .boolean
  | 23 => .long
  | _ => .object "TollOnVowels$Road"
def fv (ty : FieldType) (M : PM) (ad : Nat → Nat) (o j : Nat) : Value := match ty with
  | .object _ => va_rf ((M.r o j).map ad)
  | .array _ => va_rf ((M.r o j).map ad)
  | .long => .long (M.l o j)
  | _ => .int (M.i o j)
theorem fv_same {M M' : PM} {o : Nat} (hi : M'.i o = M.i o) (hl : M'.l o = M.l o) (hr : M'.r o = M.r o) (ty : FieldType) (ad : Nat → Nat) (j : Nat) : fv ty M' ad o j = fv ty M ad o j := by
  cases ty <;> simp only [fv, hi, hl, hr]
def cAt (E : En) (M : PM) (o : Nat) (H : Heap) : Prop :=
  (∀ r, vwCl[(M.k o).1]? = some r → t_OB (E.ad o) (E.D.1 (M.k o).1) r.2.2 (E.D.2 (M.k o).1) H (fun j => fv (fTy (M.k o).1 j) M E.ad o j)) ∧
  (20 ≤ (M.k o).1 → (M.k o).1 < 25 → H[E.ad o]? = some (arrV (E.a (M.k o).1) (M.k o).2 (fun j => fv (aTy (M.k o).1) M E.ad o j)))
def Rep (E : En) (M : PM) (H : Heap) : Prop := 20 ≤ M.n ∧ H.size = E.B + (M.n - 20) ∧ (∀ o, 20 ≤ o → o < M.n → cAt E M o H) ∧ ∀ a, a < 20 ∨ M.n ≤ a → (M.k a).1 = 99
theorem Rep.dom {E : En} {M : PM} {H : Heap} (h : Rep E M H) {a c : Nat} (hc : (M.k a).1 = c) (h9 : c < 99) : 20 ≤ a ∧ a < M.n := by
  refine ⟨?_, ?_⟩
  · rcases Nat.lt_or_ge a 20 with q | q
    · have := h.2.2.2 a (Or.inl q); omega
    · exact q
  · rcases Nat.lt_or_ge a M.n with q | q
    · exact q
    · have := h.2.2.2 a (Or.inr q); omega
def EOk (E : En) : Prop := ∀ o, 20 ≤ o → E.ad o = E.B + (o - 20)
theorem EOk.ne {E : En} (h : EOk E) {a b : Nat} (ha : 20 ≤ a) (hb : 20 ≤ b) (hab : a ≠ b) : E.ad a ≠ E.ad b := by
  rw [h a ha, h b hb]; omega
theorem EOk.ge {E : En} (h : EOk E) {a : Nat} (ha : 20 ≤ a) : E.B ≤ E.ad a := by
  rw [h a ha]; omega
theorem cAt.same {E : En} {M M' : PM} {o : Nat} {H H' : Heap} (h : cAt E M o H) (hk : M'.k o = M.k o) (hi : M'.i o = M.i o) (hl : M'.l o = M.l o) (hr : M'.r o = M.r o) (hH : H'[E.ad o]? = H[E.ad o]?) : cAt E M' o H' := by
  refine ⟨fun r hr2 => ?_, fun h1 h2 => ?_⟩
  · rw [hk] at hr2 ⊢
    exact ((h.1 r hr2).kept hH).to (fun j _ => (fv_same hi hl hr _ _ _).symm)
  · rw [hk] at h1 h2 ⊢
    rw [hH, h.2 h1 h2]
    congr 2
    funext j
    exact (fv_same hi hl hr _ _ _).symm
theorem Rep.upd {E : En} {M M' : PM} {H H' : Heap} (hE : EOk E) (h : Rep E M H) {o : Nat} (ho : 20 ≤ o) (hn : M'.n = M.n) (hk : M'.k = M.k) (hi : ∀ a, a ≠ o → M'.i a = M.i a) (hl : ∀ a, a ≠ o → M'.l a = M.l a) (hr : ∀ a, a ≠ o → M'.r a = M.r a)
    (hz : H'.size = H.size) (oq : ∀ q : Nat, q ≠ E.ad o → H'[q]? = H[q]?) (hc : cAt E M' o H') : Rep E M' H' := by
  refine ⟨by rw [hn]; exact h.1, by rw [hn, hz]; exact h.2.1, fun a h1 h2 => ?_, fun a ha => by rw [hk]; rw [hn] at ha; exact h.2.2.2 a ha⟩
  by_cases e : a = o
  · rw [e]; exact hc
  · rw [hn] at h2
    exact (h.2.2.1 a h1 h2).same (by rw [hk]) (hi a e) (hl a e) (hr a e) (oq _ (hE.ne h1 ho e))
theorem Rep.new {E : En} {M M' : PM} {H H' : Heap} (hE : EOk E) (h : Rep E M H) (hn : M'.n = M.n + 1) (hk : ∀ a, a ≠ M.n → M'.k a = M.k a) (hi : ∀ a, a ≠ M.n → M'.i a = M.i a) (hl : ∀ a, a ≠ M.n → M'.l a = M.l a) (hr : ∀ a, a ≠ M.n → M'.r a = M.r a)
    (hz : H'.size = H.size + 1) (oq : ∀ q : Nat, q < H.size → H'[q]? = H[q]?) (hc : cAt E M' M.n H') : Rep E M' H' := by
  obtain ⟨g1, g2, g3, g4⟩ := h
  refine ⟨by omega, by rw [hn, hz]; omega, fun a h1 h2 => ?_, fun a ha => by rw [hk a (by omega)]; exact g4 a (by omega)⟩
  by_cases e : a = M.n
  · rw [e]; exact hc
  · have h3 : a < M.n := by omega
    refine (g3 a h1 h3).same (hk a e) (hi a e) (hl a e) (hr a e) (oq _ ?_)
    rw [hE a h1, g2]; omega
theorem Rep.top {E : En} {M : PM} {H : Heap} (hE : EOk E) (h : Rep E M H) : E.ad M.n = H.size := by
  rw [hE M.n h.1, h.2.1]
/-! tables and pictures -/
def tysL (E : En) : List (ClassId × FieldType) := [(E.a 20, .int), (E.a 21, .byte), (E.a 22, .boolean), (E.a 23, .long), (E.a 24, .object "TollOnVowels$Road")]
def nwF : List Cond := [.fieldLinkNest "TollOnVowels" 244 "TollOnVowels$Road" "at" "[I" "TollOnVowels", .fieldLinkNest "TollOnVowels" 246 "TollOnVowels$Road" "purse" "[I" "TollOnVowels", .fieldLinkNest "TollOnVowels" 249 "TollOnVowels$Road" "spent" "[I" "TollOnVowels", .fieldLinkNest "TollOnVowels" 263 "TollOnVowels$Road" "book" "[I" "TollOnVowels", .fieldLinkNest "TollOnVowels" 382 "TollOnVowels$Road" "hour" "I" "TollOnVowels", .fieldLinkNest "TollOnVowels" 340 "TollOnVowels$Road" "done" "I" "TollOnVowels",
  .fieldLinkNest "TollOnVowels$Sign" 17 "TollOnVowels" "askedVowel" "I" "TollOnVowels", .fieldLinkNest "TollOnVowels$Sign" 22 "TollOnVowels" "askedStation" "I" "TollOnVowels", .fieldLinkNest "TollOnVowels$Sign" 25 "TollOnVowels" "askedHour" "I" "TollOnVowels", .fieldLinkNest "TollOnVowels$Sign" 28 "TollOnVowels" "askedLong" "I" "TollOnVowels", .fieldLinkNest "TollOnVowels$Sign" 31 "TollOnVowels" "askedPlace" "I" "TollOnVowels", .fieldLinkNest "TollOnVowels$Sign" 34 "TollOnVowels" "askedAhead" "I" "TollOnVowels", .fieldLinkNest "TollOnVowels$Sign" 37 "TollOnVowels" "askedDouble" "I" "TollOnVowels"]
def nwM : List Cond := [.methodLinkNest "TollOnVowels" 11 ⟨"TollOnVowels$Road", "<init>", "()V"⟩ "TollOnVowels", .methodLinkNest "TollOnVowels$Less" 7 ⟨"TollOnVowels$Node", "<init>", "(LTollOnVowels;)V"⟩ "TollOnVowels", .methodLinkNest "TollOnVowels$Number" 7 ⟨"TollOnVowels$Node", "<init>", "(LTollOnVowels;)V"⟩ "TollOnVowels", .methodLinkNest "TollOnVowels$Sign" 7 ⟨"TollOnVowels$Node", "<init>", "(LTollOnVowels;)V"⟩ "TollOnVowels", .methodLinkNest "TollOnVowels$Act" 7 ⟨"TollOnVowels$Node", "<init>", "(LTollOnVowels;)V"⟩ "TollOnVowels", .castable "java/util/NoSuchElementException" "java/util/NoSuchElementException", .declares ⟨"java/lang/RuntimeException", "<init>", "()V"⟩, .declares ⟨"java/lang/Exception", "<init>", "()V"⟩, .declares ⟨"java/lang/Throwable", "<init>", "()V"⟩]
def strL : List (Nat × String) := [(196, "0123456789"), (204, "abcdefghijklmnopqrstuvwxyz"), (280, "vshlpnd"), (289, "<>="), (291, "+-"), (293, "*/"), (151, "aeiou"), (432, "abcd"), (434, "<>!0123456789")]
def strLen : List Nat := [10, 26, 7, 3, 2, 2, 5, 4, 13]
def strByt : List (List Int32) := [[48, 49, 50, 51, 52, 53, 54, 55, 56, 57], [97, 98, 99, 100, 101, 102, 103, 104, 105, 106, 107, 108, 109, 110, 111, 112, 113, 114, 115, 116, 117, 118, 119, 120, 121, 122], [118, 115, 104, 108, 112, 110, 100], [60, 62, 61], [43, 45], [42, 47], [97, 101, 105, 111, 117], [97, 98, 99, 100], [60, 62, 33, 48, 49, 50, 51, 52, 53, 54, 55, 56, 57]]
def Tb (E : En) (U : State) : Prop := va_K E.D vwCl (tysL E) U ∧ (∀ w ∈ nwF, va_Nw w U) ∧ (∀ w ∈ nwM, va_Nw w U) ∧ va_Nw (.declares ⟨"TollOnVowels$Node", "value", "()I"⟩) U ∧ va_AO "TollOnVowels$Road" U ∧ ∀ (i : Nat) (q : Nat × String), strL[i]? = some q → vk_R "TollOnVowels" q.1 q.2 (E.ad (1 + i)) U
theorem nwF_tab : ∀ w ∈ nwF, w.onTables = true := by
  intro w hw
  simp only [nwF, List.mem_cons, List.not_mem_nil, or_false] at hw
  rcases hw with h | h | h | h | h | h | h | h | h | h | h | h | h <;> (rw [h]; rfl)
theorem nwM_tab : ∀ w ∈ nwM, w.onTables = true := by
  intro w hw
  simp only [nwM, List.mem_cons, List.not_mem_nil, or_false] at hw
  rcases hw with h | h | h | h | h | h | h | h | h <;> (rw [h]; rfl)
theorem Tb.same {E : En} {u U : State} (hv : u.vm = U.vm) (h : Tb E u) : Tb E U := by
  obtain ⟨h1, h2, h3, h4, h5, h6⟩ := h
  have hA : u.vm.Alike U.vm := by rw [hv]; exact Vm.Alike.refl _
  exact ⟨va_K.moved hA h1, fun w hw => va_Nw.same (nwF_tab w hw) hv (h2 w hw), fun w hw => va_Nw.same (nwM_tab w hw) hv (h3 w hw), va_Nw.same rfl hv h4, va_AO.moved hA h5, fun i q hq => vk_R.same hv.symm (h6 i q hq)⟩
theorem Tb.warm {E : En} {s U : State} (hW : s.WarmedH U.vm) (h : Tb E s) : Tb E U := by
  obtain ⟨h1, h2, h3, h4, h5, h6⟩ := h
  refine ⟨va_K.moved hW.alike h1, fun w hw => ?_, fun w hw => ?_, va_Nw.warmD hW h4, va_AO.moved hW.alike h5, fun i q hq => vk_R.warm hW (h6 i q hq)⟩
  · have h0 := h2 w hw
    simp only [nwF, List.mem_cons, List.not_mem_nil, or_false] at hw
    rcases hw with h | h | h | h | h | h | h | h | h | h | h | h | h <;> (rw [h] at h0 ⊢; exact va_Nw.warmF hW h0)
  · have h0 := h3 w hw
    simp only [nwM, List.mem_cons, List.not_mem_nil, or_false] at hw
    rcases hw with h | h | h | h | h | h | h | h | h <;> (rw [h] at h0 ⊢; first | exact va_Nw.warmM hW h0 | exact va_Nw.warmC hW h0 | exact va_Nw.warmD hW h0)
/-- the cells below the law's own, that stay: String constants, what a throw reads -/
def Pic (E : En) (U : State) (H : Heap) : Prop := vk_S 9 strLen strByt (fun i => E.ad (1 + i)) (fun i => E.ad (10 + i)) (fun q => E.B ≤ q) U H ∧ va_Z "java/lang/String" "COMPACT_STRINGS" "Z" (.int 1) (fun q => E.B ≤ q) U H ∧
  vx_Zq Bundle.tN "UNASSIGNED_STACK" Bundle.steD (fun q => E.B ≤ q) U H ∧ vx_Zq Bundle.tN "SUPPRESSED_SENTINEL" Bundle.listD (fun q => E.B ≤ q) U H ∧ ∀ a : Nat, E.B ≤ a → a < H.size → H.size ≤ H.size
theorem Pic.moved {E : En} {u U : State} {H : Heap} (hvm : u.vm.Alike U.vm) (h : Pic E u H) : Pic E U H := ⟨vk_S.moved hvm h.1, va_Z.moved hvm h.2.1, vx_Zq.moved hvm h.2.2.1, vx_Zq.moved hvm h.2.2.2.1, h.2.2.2.2⟩
theorem Pic.kept {E : En} {U : State} {H H1 : Heap} (h : Pic E U H) (hq : ∀ a : Nat, a < H.size → ¬ E.B ≤ a → H1[a]? = H[a]?) : Pic E U H1 :=
  ⟨vk_S.kept h.1 hq, h.2.1.kept hq, h.2.2.1.kept hq, h.2.2.2.1.kept hq, fun _ _ _ => Nat.le_refl _⟩
/-- the world of a method: tables, pictures, the pure memory -/
def Wd (E : En) (M : PM) (U : State) : Prop := EOk E ∧ Tb E U ∧ Pic E U U.heap ∧ Rep E M U.heap
theorem Wd.blind {E : En} {M : PM} {U : State} (h : Wd E M U) (g : JFrame) (mk : MethodId) (a : Array Value) : Wd E M (U.calling g mk a) :=
  ⟨h.1, Tb.same (u := U) (U := U.calling g mk a) rfl h.2.1, Pic.moved (u := U) (U := U.calling g mk a) (Vm.Alike.refl U.vm) h.2.2.1, h.2.2.2⟩
/-! values -/
def tr (ad : Nat → Nat) (v : Value) : Value := match v with
  | .ref a => .ref (ad a)
  | w => w
theorem tr_cat (ad : Nat → Nat) (v : Value) : (tr ad v).category = v.category := by cases v <;> rfl
theorem tr_cats (ad : Nat → Nat) (S : List Value) : ((S.map (tr ad)).map fun v => v.category) = S.map fun v => v.category := by
  rw [List.map_map]
  exact List.map_congr_left (fun v _ => tr_cat ad v)
/-! locals: by their places; none: nothing is said -/
def lh (ad : Nat → Nat) (ls : Array Slot) (nL : Nat) (L : List (Option Value)) : Prop := ls.size = nL ∧ lv_wf ls ∧ ∀ (i : Nat) (v : Value), L[i]? = some (some v) → ls[i]? = some (.val (tr ad v))
def asc (ad : Nat → Nat) : List (Option Value) → Nat → List (Nat × Value)
  | [], _ => []
  | none :: L, i => asc ad L (i + 1)
  | some v :: L, i => (i, tr ad v) :: asc ad L (i + 1)
theorem asc_mem (ad : Nat → Nat) : ∀ (L : List (Option Value)) (n : Nat) (q : Nat × Value), q ∈ asc ad L n ↔ ∃ (j : Nat) (v : Value), L[j]? = some (some v) ∧ q = (n + j, tr ad v)
  | [], n, q => by simp [asc]
  | none :: L, n, q => by
    rw [asc, asc_mem ad L (n + 1) q]
    constructor
    · rintro ⟨j, v, h1, h2⟩
      exact ⟨j + 1, v, by simpa using h1, by rw [h2]; congr 1; omega⟩
    · rintro ⟨j, v, h1, h2⟩
      cases j with
      | zero => simp at h1
      | succ j => exact ⟨j, v, by simpa using h1, by rw [h2]; congr 1; omega⟩
  | some w :: L, n, q => by
    rw [asc, List.mem_cons, asc_mem ad L (n + 1) q]
    constructor
    · rintro (h | ⟨j, v, h1, h2⟩)
      · exact ⟨0, w, by simp, by simpa using h⟩
      · exact ⟨j + 1, v, by simpa using h1, by rw [h2]; congr 1; omega⟩
    · rintro ⟨j, v, h1, h2⟩
      cases j with
      | zero => left; simp at h1; rw [h2, h1]; simp
      | succ j => exact Or.inr ⟨j, v, by simpa using h1, by rw [h2]; congr 1; omega⟩
theorem lh_has {ad : Nat → Nat} {ls : Array Slot} {nL : Nat} {L : List (Option Value)} (h : lh ad ls nL L) : lv_has ls nL (asc ad L 0) := by
  refine ⟨h.1, h.2.1, fun q hq => ?_⟩
  obtain ⟨j, v, h1, h2⟩ := (asc_mem ad L 0 q).mp hq
  rw [h2]
  simpa using h.2.2 j v h1
/-- one word that is stored -/
def kill2 (a : Option Value) : Option Value := match a with
  | some v => if v.category = 2 then none else some v
  | none => none
def lst1 : List (Option Value) → Nat → Value → List (Option Value)
  | [], _, _ => []
  | _ :: L, 0, v => some v :: L
  | a :: L, 1, v => kill2 a :: lst1 L 0 v
  | a :: L, i + 2, v => a :: lst1 L (i + 1) v
def lst2 : List (Option Value) → Nat → Value → List (Option Value)
  | [], _, _ => []
  | _ :: L, 0, v => some v :: (match L with
    | [] => []
    | _ :: L' => none :: L')
  | a :: L, 1, v => kill2 a :: lst2 L 0 v
  | a :: L, i + 2, v => a :: lst2 L (i + 1) v
theorem kill2_some {a : Option Value} {w : Value} (h : kill2 a = some w) : a = some w ∧ w.category ≠ 2 := by
  cases a with
  | none => cases h
  | some v =>
    simp only [kill2] at h
    split at h
    · cases h
    · cases h; exact ⟨rfl, by assumption⟩
theorem lst1_get : ∀ (L : List (Option Value)) (i : Nat) (v : Value) (j : Nat) (w : Value), (lst1 L i v)[j]? = some (some w) → (j = i ∧ w = v) ∨ (j ≠ i ∧ L[j]? = some (some w) ∧ ¬ (j + 1 = i ∧ w.category = 2))
  | [], i, v, j, w, h => by simp [lst1] at h
  | a :: L, 0, v, j, w, h => by
    cases j with
    | zero => left; simp [lst1] at h; exact ⟨rfl, h.symm⟩
    | succ j => right; simp [lst1] at h; exact ⟨by omega, by simpa using h, by omega⟩
  | a :: L, 1, v, j, w, h => by
    cases j with
    | zero =>
      right
      simp [lst1] at h
      obtain ⟨h1, h2⟩ := kill2_some h
      exact ⟨by omega, by simp [h1], fun q => h2 q.2⟩
    | succ j =>
      simp only [lst1, List.getElem?_cons_succ] at h
      rcases lst1_get L 0 v j w h with ⟨h1, h2⟩ | ⟨h1, h2, h3⟩
      · exact Or.inl ⟨by omega, h2⟩
      · exact Or.inr ⟨by omega, by simpa using h2, by omega⟩
  | a :: L, i + 2, v, j, w, h => by
    cases j with
    | zero => right; simp [lst1] at h; exact ⟨by omega, by simp [h], by omega⟩
    | succ j =>
      simp only [lst1, List.getElem?_cons_succ] at h
      rcases lst1_get L (i + 1) v j w h with ⟨h1, h2⟩ | ⟨h1, h2, h3⟩
      · exact Or.inl ⟨by omega, h2⟩
      · exact Or.inr ⟨by omega, by simpa using h2, fun q => h3 ⟨by omega, q.2⟩⟩
theorem lst2_get : ∀ (L : List (Option Value)) (i : Nat) (v : Value) (j : Nat) (w : Value), (lst2 L i v)[j]? = some (some w) → (j = i ∧ w = v) ∨ (j ≠ i ∧ j ≠ i + 1 ∧ L[j]? = some (some w) ∧ ¬ (j + 1 = i ∧ w.category = 2))
  | [], i, v, j, w, h => by simp [lst2] at h
  | [a], 0, v, j, w, h => by
    cases j with
    | zero => left; simp [lst2] at h; exact ⟨rfl, h.symm⟩
    | succ j => simp [lst2] at h
  | a :: b :: L, 0, v, j, w, h => by
    match j, h with
    | 0, h => left; simp [lst2] at h; exact ⟨rfl, h.symm⟩
    | 1, h => simp [lst2] at h
    | j + 2, h => right; simp [lst2] at h; exact ⟨by omega, by omega, by simpa using h, by omega⟩
  | a :: L, 1, v, j, w, h => by
    cases j with
    | zero =>
      right
      simp [lst2] at h
      obtain ⟨h1, h2⟩ := kill2_some h
      exact ⟨by omega, by omega, by simp [h1], fun q => h2 q.2⟩
    | succ j =>
      simp only [lst2, List.getElem?_cons_succ] at h
      rcases lst2_get L 0 v j w h with ⟨h1, h2⟩ | ⟨h1, h4, h2, h3⟩
      · exact Or.inl ⟨by omega, h2⟩
      · exact Or.inr ⟨by omega, by omega, by simpa using h2, by omega⟩
  | a :: L, i + 2, v, j, w, h => by
    cases j with
    | zero => right; simp [lst2] at h; exact ⟨by omega, by omega, by simp [h], by omega⟩
    | succ j =>
      simp only [lst2, List.getElem?_cons_succ] at h
      rcases lst2_get L (i + 1) v j w h with ⟨h1, h2⟩ | ⟨h1, h4, h2, h3⟩
      · exact Or.inl ⟨by omega, h2⟩
      · exact Or.inr ⟨by omega, by omega, by simpa using h2, fun q => h3 ⟨by omega, q.2⟩⟩
theorem lh_st1 {ad : Nat → Nat} {ls : Array Slot} {nL : Nat} {L : List (Option Value)} {i : Nat} {v : Value} (h : lv_has ls nL ((i, tr ad v) :: (asc ad L 0).filter (fun q => !(q.1 == i) && !(q.1 + 1 == i && q.2.category == 2)))) : lh ad ls nL (lst1 L i v) := by
  refine ⟨h.1, h.2.1, fun j w hj => ?_⟩
  rcases lst1_get L i v j w hj with ⟨h1, h2⟩ | ⟨h1, h2, h3⟩
  · rw [h1, h2]; exact h.2.2 (i, tr ad v) List.mem_cons_self
  · refine h.2.2 (j, tr ad w) (List.mem_cons_of_mem _ (List.mem_filter.mpr ⟨(asc_mem ad L 0 _).mpr ⟨j, w, h2, by simp⟩, ?_⟩))
    simp only [Bool.and_eq_true, Bool.not_eq_true', beq_eq_false_iff_ne, ne_eq, Bool.and_eq_false_iff]
    refine ⟨h1, ?_⟩
    by_cases e : j + 1 = i
    · right; rw [tr_cat]; exact fun q => h3 ⟨e, q⟩
    · exact Or.inl e
theorem lh_st2 {ad : Nat → Nat} {ls : Array Slot} {nL : Nat} {L : List (Option Value)} {i : Nat} {v : Value} (h : lv_has ls nL ((i, tr ad v) :: (asc ad L 0).filter (fun q => !(q.1 == i) && (!(q.1 == i + 1) && !(q.1 + 1 == i && q.2.category == 2))))) : lh ad ls nL (lst2 L i v) := by
  refine ⟨h.1, h.2.1, fun j w hj => ?_⟩
  rcases lst2_get L i v j w hj with ⟨h1, h2⟩ | ⟨h1, h4, h2, h3⟩
  · rw [h1, h2]; exact h.2.2 (i, tr ad v) List.mem_cons_self
  · refine h.2.2 (j, tr ad w) (List.mem_cons_of_mem _ (List.mem_filter.mpr ⟨(asc_mem ad L 0 _).mpr ⟨j, w, h2, by simp⟩, ?_⟩))
    simp only [Bool.and_eq_true, Bool.not_eq_true', beq_eq_false_iff_ne, ne_eq, Bool.and_eq_false_iff]
    refine ⟨h1, h4, ?_⟩
    by_cases e : j + 1 = i
    · right; rw [tr_cat]; exact fun q => h3 ⟨e, q⟩
    · exact Or.inl e
/-- fewer words -/
def Lsub : List (Option Value) → List (Option Value) → Prop
  | [], _ => True
  | none :: A, _ :: L => Lsub A L
  | none :: A, [] => Lsub A []
  | some v :: A, w :: L => some v = w ∧ Lsub A L
  | some _ :: _, [] => False
theorem Lsub.get : ∀ {A L : List (Option Value)}, Lsub A L → ∀ (j : Nat) (w : Value), A[j]? = some (some w) → L[j]? = some (some w)
  | [], L, _, j, w, h => by simp at h
  | none :: A, b :: L, hs, j, w, h => by
    cases j with
    | zero => simp at h
    | succ j => simpa using Lsub.get (A := A) (L := L) hs j w (by simpa using h)
  | none :: A, [], hs, j, w, h => by
    cases j with
    | zero => simp at h
    | succ j => simpa using Lsub.get (A := A) (L := []) hs j w (by simpa using h)
  | some v :: A, b :: L, hs, j, w, h => by
    cases j with
    | zero => simp at h ⊢; rw [← hs.1, h]
    | succ j => simpa using Lsub.get (A := A) (L := L) hs.2 j w (by simpa using h)
  | some _ :: _, [], hs, j, w, h => hs.elim
/-- the locals with which a method begins -/
def ent : List Value → Nat → List (Option Value)
  | [], n => List.replicate n none
  | v :: vs, n => if v.category = 2 then some v :: none :: ent vs (n - 2) else some v :: ent vs (n - 1)
theorem ent_get (ad : Nat → Nat) : ∀ (vs : List Value) (n i j : Nat) (w : Value), (ent vs n)[j]? = some (some w) → (i + j, tr ad w) ∈ lv_args i (vs.map (tr ad))
  | [], n, i, j, w, h => by
    simp only [ent, List.getElem?_replicate] at h
    split at h <;> simp at h
  | v :: vs, n, i, j, w, h => by
    simp only [List.map_cons, lv_args, tr_cat]
    by_cases hc : v.category = 2
    · rw [if_pos hc]
      simp only [ent, if_pos hc] at h
      match j, h with
      | 0, h => simp at h; rw [h]; exact List.mem_cons_self
      | 1, h => simp at h
      | j + 2, h =>
        have := ent_get ad vs (n - 2) (i + 2) j w (by simpa using h)
        exact List.mem_cons_of_mem _ (by rw [show i + (j + 2) = i + 2 + j by omega]; exact this)
    · rw [if_neg hc]
      simp only [ent, if_neg hc] at h
      match j, h with
      | 0, h => simp at h; rw [h]; exact List.mem_cons_self
      | j + 1, h =>
        have := ent_get ad vs (n - 1) (i + 1) j w (by simpa using h)
        exact List.mem_cons_of_mem _ (by rw [show i + (j + 1) = i + 1 + j by omega]; exact this)
