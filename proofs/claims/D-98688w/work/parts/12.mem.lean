/-! MEMORY ROWS: fields, arrays, new cells, over the pure memory -/
theorem tr_rf (ad : Nat → Nat) (r : Option Nat) : tr ad (va_rf r) = va_rf (r.map ad) := by cases r <;> rfl
theorem rf_cat (r : Option Nat) : (va_rf r).category = 1 := by cases r <;> rfl
theorem arrV_ref {E : En} {M : PM} {H : Heap} (h : Rep E M H) {a c : Nat} (hk : (M.k a).1 = c) (h20 : 20 ≤ c) (h25 : c < 25) : H[E.ad a]? = some (arrV (E.a c) (M.k a).2 (fun j => fv (aTy c) M E.ad a j)) := by
  have hd := h.dom hk (by omega)
  have := (h.2.2.1 a hd.1 hd.2).2 (by omega) (by omega)
  rw [hk] at this
  exact this
theorem tys_at (E : En) {c : Nat} (h20 : 20 ≤ c) (h25 : c < 25) : (tysL E)[c - 20]? = some (E.a c, aTy c) := by
  rcases (show c = 20 ∨ c = 21 ∨ c = 22 ∨ c = 23 ∨ c = 24 by omega) with h | h | h | h | h <;> (rw [h]; rfl)
theorem va_S.put2 {B : Nat} {H0 H H1 : Heap} {locs : List Loc} {a k : Nat} (h : va_S (fun q => B ≤ q) H0 H locs) (z : H1.size = H.size) (oq : ∀ q : Nat, q ≠ a → H1[q]? = H[q]?) (ha : B ≤ a) : va_S (fun q => B ≤ q) H0 H1 (locs ++ [⟨a, k⟩]) := va_S.put h z oq ha
theorem ck_lt {i : Int32} {n : Nat} (h : vp_in i n) : ix i < n := Nat.not_le.mp fun q => h (Or.inr q)
/-- the pure memory behind a write of one place -/
theorem Rep.set {E : En} {M M' : PM} {H H' : Heap} (hE : EOk E) (h : Rep E M H) {a c : Nat} (hk : (M.k a).1 = c) (h20 : 20 ≤ c) (h25 : c < 25) (hM : M'.n = M.n ∧ M'.k = M.k) (hi : ∀ b, b ≠ a → M'.i b = M.i b) (hl : ∀ b, b ≠ a → M'.l b = M.l b) (hr : ∀ b, b ≠ a → M'.r b = M.r b) (hz : H'.size = H.size) (oq : ∀ q : Nat, q ≠ E.ad a → H'[q]? = H[q]?) {f : Nat → Value}
    (hH : H'[E.ad a]? = some (arrV (E.a c) (M.k a).2 f)) (hf : ∀ j, f j = fv (aTy c) M' E.ad a j) : Rep E M' H' := by
  have hd := h.dom hk (by omega)
  refine h.upd hE hd.1 hM.1 hM.2 hi hl hr hz oq ⟨fun r hr2 => ?_, fun _ _ => ?_⟩
  · rw [hM.2, hk] at hr2
    have : vwCl.length ≤ c := by
      show 7 ≤ c
      omega
    rw [List.getElem?_eq_none this] at hr2
    cases hr2
  · rw [hM.2, hk, hH]
    congr 2
    funext j
    exact hf j
/-- field k of an object of class c is written -/
theorem Rep.fld {E : En} {M M' : PM} {H H' : Heap} (hE : EOk E) (h : Rep E M H) {a c : Nat} (hk : (M.k a).1 = c) (hM : M'.n = M.n ∧ M'.k = M.k) (hi : ∀ b, b ≠ a → M'.i b = M.i b) (hl : ∀ b, b ≠ a → M'.l b = M.l b) (hr : ∀ b, b ≠ a → M'.r b = M.r b) (hz : H'.size = H.size) (oq : ∀ q : Nat, q ≠ E.ad a → H'[q]? = H[q]?) {C : String} {T : u_T} {N : Nat} (hc : vwCl[c]? = some (C, T, N)) {f : Nat → Value}
    (hH : t_OB (E.ad a) (E.D.1 c) N (E.D.2 c) H' f) (hf : ∀ j, f j = fv (fTy c j) M' E.ad a j) : Rep E M' H' := by
  have hc7 : c < 7 := (List.getElem?_eq_some_iff.mp hc).1
  have hd := h.dom hk (by omega)
  refine h.upd hE hd.1 hM.1 hM.2 hi hl hr hz oq ⟨fun r hr2 => ?_, fun h20 _ => ?_⟩
  · rw [hM.2, hk] at hr2 ⊢
    cases hc.symm.trans hr2
    exact hH.to (fun j _ => hf j)
  · rw [hM.2, hk] at h20
    omega
/-- the fields of a class's table are apart: by name, or both final and of different owners -/
def fapart (T : u_T) (N : Nat) : Prop := ∀ a, a < N → ∀ b, b < N → a ≠ b → (T a).2.1 ≠ (T b).2.1 ∨ ((T a).2.2.2 = true ∧ (T b).2.2.2 = true ∧ (T a).1 ≠ (T b).1)
theorem wx_apartF {args : Array Value} {s : State} {C O f d O' f' d' : String} (h : (Cond.laysFinal C O f d).before args s = true) (h' : (Cond.laysFinal C O' f' d').before args s = true) {cf kf fi fd cf' kf' fi' fd'} (hi : s.fieldFound? O f d = some (cf, kf, fi, fd)) (hi' : s.fieldFound? O' f' d' = some (cf', kf', fi', fd')) (hne : O ≠ O') : fd.slot ≠ fd'.slot := by
  obtain ⟨c, k, c', k', i, g, r1, r2, g1, -, -, -, g4, -, D, g5, g6, -⟩ := Cond.laysFinal_spec h
  obtain ⟨c2, k2, c2', k2', i2, g2, s1, s2, f1, -, -, -, f4, -, D2, f5, f6, -⟩ := Cond.laysFinal_spec h'
  cases r1.symm.trans s1
  cases hi.symm.trans g1
  cases hi'.symm.trans f1
  intro hs
  rw [hs] at g5
  cases g5.symm.trans f5
  obtain ⟨kx, x1, x2⟩ := Vm.findClass_spec g4
  obtain ⟨ky, y1, y2⟩ := Vm.findClass_spec f4
  have e1 := (State.fieldFound?_spec hi).1
  have e2 := (State.fieldFound?_spec hi').1
  cases x1.symm.trans e1
  cases y1.symm.trans e2
  exact hne (x2.symm.trans (g6.symm.trans (f6.trans y2)))
theorem wx_apart {D : va_G} {cl : List vw_C} {tys : List (ClassId × FieldType)} {args : Array Value} {s : State} {C : String} {T : u_T} {N ci : Nat} {Ts : List Cond} (hts : ∀ w ∈ Ts, w.before args s = true) (hin : ∀ w ∈ u_ws C T N, w ∈ Ts) (ty : Nat → FieldType) (hty : ∀ k, k < N → parseFieldDescriptor (T k).2.2.1 = some (ty k)) (hnm : fapart T N) (hK : va_K D cl tys s) (hc : cl[ci]? = some (C, T, N)) : ∀ x y, x < N → y < N → x ≠ y → (D.2 ci) x ≠ (D.2 ci) y := by
  intro x y hx hy hne
  obtain ⟨hS, -⟩ := hK.1 ci _ hc
  obtain ⟨_, _, _, fa, hia, ea⟩ := hS x hx
  obtain ⟨_, _, _, fb, hib, eb⟩ := hS y hy
  rw [← ea, ← eb]
  rcases hnm x hx y hy hne with h | ⟨h1, h2, h3⟩
  · refine u_apart (u_lays hts hin hx) (u_lays hts hin hy) hia hib ?_
    rw [(State.fieldFound?_type hia (hty x hx)).1, (State.fieldFound?_type hib (hty y hy)).1]
    exact h
  · have w1 := hts _ (hin _ (u_in_lay hx))
    have w2 := hts _ (hin _ (u_in_lay hy))
    unfold u_lay at w1 w2
    rw [if_pos h1] at w1
    rw [if_pos h2] at w2
    exact wx_apartF w1 w2 hia hib h3
section WX
variable {p : Program} {l : Launch} {e : Env} {R : Room} {s : State} {m : MethodId} {args : Array Value} {below : List Frame} {meth : Method} {c : Code} {H : Heap} {locs : List Loc} {cells slots : Nat} {Q : State → Prop}
variable {cc : ByteArray} {pc : Nat} {ls : Array Slot} {rest : List Value} {D : va_G} {cl : List vw_C} {a : Nat} {tys : List (ClassId × FieldType)}
/-- getfield of an object by its picture -/
theorem wx_get (hexec : p.tables.exec = Jvm.exec) (hb : c.code = cc) {own ref C : String} {T : u_T} {N ci index : Nat} (hts : ∀ w ∈ lw_all, w.before args s = true) (hin : ∀ w ∈ u_ws C T N, w ∈ lw_all) (hown : s.vm.findClass own = some m.cls) (hK : va_K D cl tys s) {V : Nat → Value} (hP : t_OB a (D.1 ci) N (D.2 ci) H V) (hc : cl[ci]? = some (C, T, N)) (k : Nat) (hk : k < N) (hlink : (Cond.fieldLink own index ref (T k).2.1 (T k).2.2.1).before args s = true) (hsame : (T k).1 = ref) (hdg : decode cc pc = .ok (.getfield index, 3))
    (kk : W p l e R s m args below meth c H locs cells slots Q (F0 m (pc + 3) ls (V k :: rest))) : W p l e R s m args below meth c H locs cells slots Q (F0 m pc ls (.ref a :: rest)) := by
  obtain ⟨cell, q1, q2, q3, q4⟩ := hP
  obtain ⟨hS, hfc, kC, hkC, hkind⟩ := hK.1 ci _ hc
  obtain ⟨cf, kf, fi, f, hi, hsl⟩ := hS k hk
  exact W.getf hexec hb hown hlink (hsame ▸ hi) (u_facts hfc hkC (u_lays hts hin hk) hi).1 q1 (by rw [q3]; exact fun h => by cases h) (v := V k) (by rw [hsl, q4 k hk]) rfl rfl hdg kk
theorem wx_getN (hexec : p.tables.exec = Jvm.exec) (hb : c.code = cc) {own ref C host : String} {T : u_T} {N ci index : Nat} (hts : ∀ w ∈ lw_all, w.before args s = true) (hin : ∀ w ∈ u_ws C T N, w ∈ lw_all) (hown : s.vm.findClass own = some m.cls) (hK : va_K D cl tys s) {V : Nat → Value} (hP : t_OB a (D.1 ci) N (D.2 ci) H V) (hc : cl[ci]? = some (C, T, N)) (k : Nat) (hk : k < N) (hlink : (Cond.fieldLinkNest own index ref (T k).2.1 (T k).2.2.1 host).before args s = true) (hsame : (T k).1 = ref) (hdg : decode cc pc = .ok (.getfield index, 3))
    (kk : W p l e R s m args below meth c H locs cells slots Q (F0 m (pc + 3) ls (V k :: rest))) : W p l e R s m args below meth c H locs cells slots Q (F0 m pc ls (.ref a :: rest)) := by
  obtain ⟨cell, q1, q2, q3, q4⟩ := hP
  obtain ⟨hS, hfc, kC, hkC, hkind⟩ := hK.1 ci _ hc
  obtain ⟨cf, kf, fi, f, hi, hsl⟩ := hS k hk
  exact va_Wgetf hexec hb hown hlink (hsame ▸ hi) (u_facts hfc hkC (u_lays hts hin hk) hi).1 q1 (by rw [q3]; exact fun h => by cases h) (v := V k) (by rw [hsl, q4 k hk]) rfl rfl hdg kk
theorem wx_put (hexec : p.tables.exec = Jvm.exec) (hb : c.code = cc) {own ref C : String} {T : u_T} {N ci index : Nat} (hts : ∀ w ∈ lw_all, w.before args s = true) (hin : ∀ w ∈ u_ws C T N, w ∈ lw_all) (ty0 : Nat → FieldType) (hty : ∀ k, k < N → parseFieldDescriptor (T k).2.2.1 = some (ty0 k)) (hnm : fapart T N) (hown : s.vm.findClass own = some m.cls) (hK : va_K D cl tys s) {V : Nat → Value} (hP : t_OB a (D.1 ci) N (D.2 ci) H V) (hc : cl[ci]? = some (C, T, N)) (k : Nat) (hk : k < N) (hlink : (Cond.fieldLink own index ref (T k).2.1 (T k).2.2.1).before args s = true) (hsame : (T k).1 = ref) (hfin : (T k).2.2.2 = false ∨ ((T k).2.2.2 = true ∧ meth.name = "<init>" ∧ (T k).1 = own)) {v : Value} (hn : narrow (ty0 k) v = v) (hfit : fits (ty0 k) v = true)
    (hdg : decode cc pc = .ok (.putfield index, 3)) (kk : ∀ (H1 : Heap) (j : Nat), t_OB a (D.1 ci) N (D.2 ci) H1 (updV V k v) → H1.size = H.size → (∀ q : Nat, q ≠ a → H1[q]? = H[q]?) → W p l e R s m args below meth c H1 (locs ++ [⟨a, j⟩]) cells slots Q (F0 m (pc + 3) ls rest)) : W p l e R s m args below meth c H locs cells slots Q (F0 m pc ls (v :: .ref a :: rest)) := by
  have hap := wx_apart hts hin ty0 hty hnm hK hc
  obtain ⟨cell, q1, q2, q3, q4⟩ := hP
  obtain ⟨hS, hfc, kC, hkC, hkind⟩ := hK.1 ci _ hc
  obtain ⟨cf, kf, fi, f, hi, hsl⟩ := hS k hk
  have hlay := hts _ (hin _ (u_in_lay hk))
  unfold u_lay at hlay
  have hst := (u_facts hfc hkC (u_lays hts hin hk) hi).1
  rcases hfin with hfin | ⟨hfin, hin2, hdecl⟩
  · rw [if_neg (by rw [hfin]; decide)] at hlay
    have h6 := u_store hfc hkC hkind hlay hi (hty k hk) hn hfit
    refine W.putK hexec hb (f := f) ⟨hown, hlink, ⟨_, _, _, hsame ▸ hi⟩, hst⟩ (by rw [q2]; exact h6) q1 q3 (by rw [hsl]; exact k2_hasslot (q4 k hk)) rfl rfl hdg fun H' e1 e2 e3 => ?_
    rw [hsl] at e1 ⊢
    exact kk H' _ ⟨_, e1, q2, q3, t_set q4 hap hk v⟩ e2 e3
  · rw [if_pos hfin] at hlay
    have hcf : m.cls = cf := by
      obtain ⟨_, _, c', _, _, _, -, -, hf', -, -, -, hown2, -⟩ := Cond.laysFinal_spec hlay
      have e1 : c' = cf := by have := hi.symm.trans hf'; simp at this; exact this.1.symm
      rw [hdecl] at hown2
      rw [← e1]; exact Option.some.inj (hown.symm.trans hown2)
    have h6 := u_fits hfc hkC hkind (Or.inr hlay) hi (hty k hk) hn hfit
    refine W.putFinK hexec hb hown hlink (hsame ▸ hi) hst hcf hin2 (by rw [q2]; exact h6) q1 q3 (by rw [hsl]; exact k2_hasslot (q4 k hk)) rfl rfl hdg fun H' e1 e2 e3 => ?_
    rw [hsl] at e1 ⊢
    exact kk H' _ ⟨_, e1, q2, q3, t_set q4 hap hk v⟩ e2 e3
theorem wx_putN (hexec : p.tables.exec = Jvm.exec) (hb : c.code = cc) {own ref C host : String} {T : u_T} {N ci index : Nat} (hts : ∀ w ∈ lw_all, w.before args s = true) (hin : ∀ w ∈ u_ws C T N, w ∈ lw_all) (ty0 : Nat → FieldType) (hty : ∀ k, k < N → parseFieldDescriptor (T k).2.2.1 = some (ty0 k)) (hnm : fapart T N) (hown : s.vm.findClass own = some m.cls) (hK : va_K D cl tys s) {V : Nat → Value} (hP : t_OB a (D.1 ci) N (D.2 ci) H V) (hc : cl[ci]? = some (C, T, N)) (k : Nat) (hk : k < N) (hlink : (Cond.fieldLinkNest own index ref (T k).2.1 (T k).2.2.1 host).before args s = true) (hsame : (T k).1 = ref) (hfin : (T k).2.2.2 = false) {v : Value} (hn : narrow (ty0 k) v = v) (hfit : fits (ty0 k) v = true)
    (hdg : decode cc pc = .ok (.putfield index, 3)) (kk : ∀ (H1 : Heap) (j : Nat), t_OB a (D.1 ci) N (D.2 ci) H1 (updV V k v) → H1.size = H.size → (∀ q : Nat, q ≠ a → H1[q]? = H[q]?) → W p l e R s m args below meth c H1 (locs ++ [⟨a, j⟩]) cells slots Q (F0 m (pc + 3) ls rest)) : W p l e R s m args below meth c H locs cells slots Q (F0 m pc ls (v :: .ref a :: rest)) := by
  have hap := wx_apart hts hin ty0 hty hnm hK hc
  obtain ⟨cell, q1, q2, q3, q4⟩ := hP
  obtain ⟨hS, hfc, kC, hkC, hkind⟩ := hK.1 ci _ hc
  obtain ⟨cf, kf, fi, f, hi, hsl⟩ := hS k hk
  have hlay := hts _ (hin _ (u_in_lay hk))
  unfold u_lay at hlay
  have hst := (u_facts hfc hkC (u_lays hts hin hk) hi).1
  rw [if_neg (by rw [hfin]; decide)] at hlay
  have h6 := u_store hfc hkC hkind hlay hi (hty k hk) hn hfit
  refine va_WputK hexec hb (f := f) hown hlink (hsame ▸ hi) hst (by rw [q2]; exact h6) q1 q3 (by rw [hsl]; exact k2_hasslot (q4 k hk)) rfl rfl hdg fun H' e1 e2 e3 => ?_
  rw [hsl] at e1 ⊢
  exact kk H' _ ⟨_, e1, q2, q3, t_set q4 hap hk v⟩ e2 e3
end WX
theorem fv_ref {ty : FieldType} {M : PM} {ad : Nat → Nat} {a k b : Nat} (hty : (∃ n, ty = .object n) ∨ ∃ t, ty = .array t) (h : M.r a k = some b) : fv ty M ad a k = tr ad (.ref b) := by
  rcases hty with ⟨n, rfl⟩ | ⟨t, rfl⟩ <;> (simp only [fv, h]; rfl)
theorem fv_rf {ty : FieldType} {M : PM} {ad : Nat → Nat} {a k : Nat} (hty : (∃ n, ty = .object n) ∨ ∃ t, ty = .array t) : fv ty M ad a k = tr ad (va_rf (M.r a k)) := by
  rcases hty with ⟨n, rfl⟩ | ⟨t, rfl⟩ <;> (simp only [fv, tr_rf])
section JM
variable {α : Type} {G : JG} {cc : ByteArray} {y : MethodName} {nL D : Nat} {ret : Option FieldType} {I : PM → Prop} {fin : α → PM → State → Prop} {M : PM} {pc : Nat} {L : List (Option Value)} {S : List Value} {o o1 o2 : Option (α × PM)}
theorem ob_of {E : En} {H : Heap} (h : Rep E M H) {a c : Nat} (hk : (M.k a).1 = c) {C : String} {T : u_T} {N : Nat} (hc : vwCl[c]? = some (C, T, N)) : t_OB (E.ad a) (E.D.1 c) N (E.D.2 c) H (fun j => fv (fTy c j) M E.ad a j) := by
  have hc7 : c < 7 := (List.getElem?_eq_some_iff.mp hc).1
  have hd := h.dom hk (by omega)
  have := (h.2.2.1 a hd.1 hd.2).1 (C, T, N) (by rw [hk]; exact hc)
  rw [hk] at this
  exact this
/-- reading a field -/
theorem J_get {a c index : Nat} {ref C : String} {T : u_T} {N : Nat} (v : Value) (hc : vwCl[c]? = some (C, T, N)) (hin : ∀ w ∈ u_ws C T N, w ∈ lw_all) (k : Nat) (hk : k < N) (hlink : Cond.fieldLink y.cls index ref (T k).2.1 (T k).2.2.1 ∈ lw_all) (hsame : (T k).1 = ref) (ha : I M → (M.k a).1 = c) (hv : I M → ∀ ad, fv (fTy c k) M ad a k = tr ad v) (d : decode cc pc = .ok (.getfield index, 3))
    (kk : JJ G cc y nL D ret I fin M (pc + 3) L (v :: S) o) : JJ G cc y nL D ret I fin M pc L (.ref a :: S) o :=
  J_lift (fun p l e R s m args below meth c0 E M0 _ cx H locs ls k0 n Q _ _ hl _ hR hI w => wx_get (V := fun j => fv (fTy c j) M E.ad a j) cx.1 cx.2.1 cx.2.2.2.2.1 hin cx.2.2.2.1 cx.2.2.2.2.2.2.1.1 (ob_of hR (ha hI) hc) hc k hk (cx.2.2.2.2.1 _ hlink) hsame d (by
    have h := w ls hl
    rw [List.map_cons, ← hv hI E.ad] at h
    exact h)) kk
theorem J_getN {a c index : Nat} {ref C host : String} {T : u_T} {N : Nat} (v : Value) (hc : vwCl[c]? = some (C, T, N)) (hin : ∀ w ∈ u_ws C T N, w ∈ lw_all) (k : Nat) (hk : k < N) (hlink : Cond.fieldLinkNest y.cls index ref (T k).2.1 (T k).2.2.1 host ∈ nwF) (hsame : (T k).1 = ref) (ha : I M → (M.k a).1 = c) (hv : I M → ∀ ad, fv (fTy c k) M ad a k = tr ad v) (d : decode cc pc = .ok (.getfield index, 3))
    (kk : JJ G cc y nL D ret I fin M (pc + 3) L (v :: S) o) : JJ G cc y nL D ret I fin M pc L (.ref a :: S) o :=
  J_lift (fun p l e R s m args below meth c0 E M0 _ cx H locs ls k0 n Q _ _ hl _ hR hI w => wx_getN (V := fun j => fv (fTy c j) M E.ad a j) cx.1 cx.2.1 cx.2.2.2.2.1 hin cx.2.2.2.1 cx.2.2.2.2.2.2.1.1 (ob_of hR (ha hI) hc) hc k hk (va_Nw.use (nwF_tab _ hlink) (cx.2.2.2.2.2.2.1.2.1 _ hlink)) hsame d (by
    have h := w ls hl
    rw [List.map_cons, ← hv hI E.ad] at h
    exact h)) kk
/-- a write: the machine's step is given over any heap -/
theorem J_wr {M' : PM} {pc' : Nat} {S' : List Value} (hw : M'.n = M.n ∧ M'.w = M.w) (hI : I M → I M')
    (h : ∀ (p : Program) (l : Launch) (e : Env) (R : Room) (s : State) (m : MethodId) (args : Array Value) (below : List Frame) (meth : Method) (c : Code) (E : En) (M0 : PM), Cx (p, l, e, R, s, m, args, below, meth, c, E, M0) cc y nL D ret → I M → ∀ (H : Heap) (locs : List Loc) (ls : Array Slot) (k n : Nat) (Q : State → Prop), k ≤ R.cells → n ≤ R.slots → lh E.ad ls nL L → va_S (fun q => E.B ≤ q) s.heap H locs → Rep E M H →
      (∀ (H1 : Heap) (locs1 : List Loc), Rep E M' H1 → va_S (fun q => E.B ≤ q) s.heap H1 locs1 → W p l e R s m args below meth c H1 locs1 k n Q (F0 m pc' ls (S'.map (tr E.ad)))) → W p l e R s m args below meth c H locs k n Q (F0 m pc ls (S.map (tr E.ad))))
    (k : JJ G cc y nL D ret I fin M' pc' L S' o) : JJ G cc y nL D ret I fin M pc L S o := by
  obtain ⟨p, l, e, R, s, m, args, below, meth, c, E, M0⟩ := G
  intro r Me ho
  obtain ⟨h1, h2⟩ := k r Me ho
  rw [hw.1, hw.2] at h1 h2
  exact ⟨h1, fun cx a b u v i H locs ls hR hS hl => h p l e R s m args below meth c E M0 cx i H locs ls _ _ _ (by omega) (by omega) hl hS hR (fun H1 locs1 hR1 hS1 => h2 cx a b u v (hI i) H1 locs1 ls hR1 hS1 hl)⟩
theorem up2_same {β : Type} {f : Nat → Nat → β} {a k : Nat} {v : β} {b : Nat} (h : b ≠ a) : up2 f a k v b = f b := by
  funext j
  exact if_neg (fun q => h q.1)
/-- writing a field of one word -/
theorem J_put {M' : PM} {a c index : Nat} {ref C : String} {T : u_T} {N : Nat} {v : Value} (hc : vwCl[c]? = some (C, T, N)) (hin : ∀ w ∈ u_ws C T N, w ∈ lw_all) (hty : ∀ k, k < N → parseFieldDescriptor (T k).2.2.1 = some (fTy c k)) (hnm : fapart T N) (k : Nat) (hk : k < N) (hlink : Cond.fieldLink y.cls index ref (T k).2.1 (T k).2.2.1 ∈ lw_all) (hsame : (T k).1 = ref) (hfin : (T k).2.2.2 = false ∨ ((T k).2.2.2 = true ∧ y.name = "<init>" ∧ (T k).1 = y.cls)) (ha : I M → (M.k a).1 = c)
    (hn : ∀ ad, narrow (fTy c k) (tr ad v) = tr ad v) (hfit : ∀ ad, fits (fTy c k) (tr ad v) = true) (hM : (M'.n = M.n ∧ M'.w = M.w) ∧ M'.k = M.k) (hi : ∀ b, b ≠ a → M'.i b = M.i b) (hl : ∀ b, b ≠ a → M'.l b = M.l b) (hr : ∀ b, b ≠ a → M'.r b = M.r b) (hv : ∀ ad j, updV (fun j => fv (fTy c j) M ad a j) k (tr ad v) j = fv (fTy c j) M' ad a j) (hI : I M → I M') (d : decode cc pc = .ok (.putfield index, 3))
    (kk : JJ G cc y nL D ret I fin M' (pc + 3) L S o) : JJ G cc y nL D ret I fin M pc L (v :: .ref a :: S) o := by
  refine J_wr hM.1 hI (fun p l e R s m args below meth c0 E M0 cx hi0 H locs ls k0 n Q _ _ hl0 hS hR w => ?_) kk
  have hd := hR.dom (ha hi0) (show c < 99 by have : c < 7 := (List.getElem?_eq_some_iff.mp hc).1; omega)
  refine wx_put cx.1 cx.2.1 cx.2.2.2.2.1 hin (fTy c) hty hnm cx.2.2.2.1 cx.2.2.2.2.2.2.1.1 (ob_of hR (ha hi0) hc) hc k hk (cx.2.2.2.2.1 _ hlink) hsame (hfin.imp id (fun q => ⟨q.1, cx.2.2.2.2.2.2.2.2.2.2.2.2.1.trans q.2.1, q.2.2⟩)) (hn E.ad) (hfit E.ad) d (fun H1 j e1 z1 o1 => ?_)
  exact w H1 _ (hR.fld cx.2.2.2.2.2.1 (ha hi0) ⟨hM.1.1, hM.2⟩ hi hl hr z1 o1 hc e1 (hv E.ad)) (hS.put2 z1 o1 (cx.2.2.2.2.2.1.ge hd.1))
theorem J_putN {M' : PM} {a c index : Nat} {ref C host : String} {T : u_T} {N : Nat} {v : Value} (hc : vwCl[c]? = some (C, T, N)) (hin : ∀ w ∈ u_ws C T N, w ∈ lw_all) (hty : ∀ k, k < N → parseFieldDescriptor (T k).2.2.1 = some (fTy c k)) (hnm : fapart T N) (k : Nat) (hk : k < N) (hlink : Cond.fieldLinkNest y.cls index ref (T k).2.1 (T k).2.2.1 host ∈ nwF) (hsame : (T k).1 = ref) (hfin : (T k).2.2.2 = false) (ha : I M → (M.k a).1 = c)
    (hn : ∀ ad, narrow (fTy c k) (tr ad v) = tr ad v) (hfit : ∀ ad, fits (fTy c k) (tr ad v) = true) (hM : (M'.n = M.n ∧ M'.w = M.w) ∧ M'.k = M.k) (hi : ∀ b, b ≠ a → M'.i b = M.i b) (hl : ∀ b, b ≠ a → M'.l b = M.l b) (hr : ∀ b, b ≠ a → M'.r b = M.r b) (hv : ∀ ad j, updV (fun j => fv (fTy c j) M ad a j) k (tr ad v) j = fv (fTy c j) M' ad a j) (hI : I M → I M') (d : decode cc pc = .ok (.putfield index, 3))
    (kk : JJ G cc y nL D ret I fin M' (pc + 3) L S o) : JJ G cc y nL D ret I fin M pc L (v :: .ref a :: S) o := by
  refine J_wr hM.1 hI (fun p l e R s m args below meth c0 E M0 cx hi0 H locs ls k0 n Q _ _ hl0 hS hR w => ?_) kk
  have hd := hR.dom (ha hi0) (show c < 99 by have : c < 7 := (List.getElem?_eq_some_iff.mp hc).1; omega)
  refine wx_putN cx.1 cx.2.1 cx.2.2.2.2.1 hin (fTy c) hty hnm cx.2.2.2.1 cx.2.2.2.2.2.2.1.1 (ob_of hR (ha hi0) hc) hc k hk (va_Nw.use (nwF_tab _ hlink) (cx.2.2.2.2.2.2.1.2.1 _ hlink)) hsame hfin (hn E.ad) (hfit E.ad) d (fun H1 j e1 z1 o1 => ?_)
  exact w H1 _ (hR.fld cx.2.2.2.2.2.1 (ha hi0) ⟨hM.1.1, hM.2⟩ hi hl hr z1 o1 hc e1 (hv E.ad)) (hS.put2 z1 o1 (cx.2.2.2.2.2.1.ge hd.1))
/-- what a field write of an int, of a reference does to the values -/
theorem put_i {a k c : Nat} {v : Int32} (hty : ∀ (M : PM) ad o, fv (fTy c k) M ad o k = .int (M.i o k)) : ∀ (ad : Nat → Nat) (j : Nat), updV (fun j => fv (fTy c j) M ad a j) k (tr ad (.int v)) j = fv (fTy c j) (M.si a k v) ad a j := by
  intro ad j
  by_cases h : j = k
  · subst h
    rw [hty, si_i, if_pos ⟨rfl, rfl⟩]
    simp [updV, tr]
  · have e : ∀ ty, fv ty (M.si a k v) ad a j = fv ty M ad a j := fun ty => by
      cases ty <;> simp [fv, si_i, si_l, si_r, h]
    rw [e]
    simp [updV, h]
theorem put_r {a k c : Nat} {r : Option Nat} (hty : ∀ (M : PM) ad o, fv (fTy c k) M ad o k = va_rf ((M.r o k).map ad)) : ∀ (ad : Nat → Nat) (j : Nat), updV (fun j => fv (fTy c j) M ad a j) k (tr ad (va_rf r)) j = fv (fTy c j) (M.sr a k r) ad a j := by
  intro ad j
  by_cases h : j = k
  · subst h
    rw [hty, sr_r, if_pos ⟨rfl, rfl⟩, tr_rf]
    simp [updV]
  · have e : ∀ ty, fv ty (M.sr a k r) ad a j = fv ty M ad a j := fun ty => by
      cases ty <;> simp [fv, sr_i, sr_l, sr_r, h]
    rw [e]
    simp [updV, h]
theorem nrw_r (ty : FieldType) (hty : (∃ n, ty = .object n) ∨ ∃ t, ty = .array t) (r : Option Nat) (ad : Nat → Nat) : narrow ty (tr ad (va_rf r)) = tr ad (va_rf r) ∧ fits ty (tr ad (va_rf r)) = true := by
  rcases hty with ⟨n, rfl⟩ | ⟨t, rfl⟩ <;> cases r <;> exact ⟨rfl, rfl⟩
/-! arrays -/
theorem J_iald {a : Nat} {i : Int32} (ha : I M → (M.k a).1 = 20 ∧ vp_in i (M.k a).2) (d : decode cc pc = .ok (.iaload, 1)) (kk : JJ G cc y nL D ret I fin M (pc + 1) L (.int (M.i a (ix i)) :: S) o) : JJ G cc y nL D ret I fin M pc L (.int i :: .ref a :: S) o :=
  J_lift (fun p l e R s m args below meth c0 E M0 _ cx H locs ls k0 n Q _ _ hl _ hR hI w => W.iald (v := .int (M.i a (ix i))) cx.1 cx.2.1 (arrV_ref hR (ha hI).1 (by omega) (by omega)) ((cx.2.2.2.2.2.2.1.1.2 0 _ (tys_at E (c := 20) (by omega) (by omega))).1 _ _) (fun q => by cases q) (by rw [arrV_size]; exact (ha hI).2) (by show (arrV _ _ _).slots[_]? = _; exact arrV_read _ _ (ck_lt (ha hI).2)) rfl rfl d (w ls hl)) kk
theorem J_bald {a : Nat} {i : Int32} (ha : I M → (M.k a).1 = 21 ∧ vp_in i (M.k a).2) (d : decode cc pc = .ok (.baload, 1)) (kk : JJ G cc y nL D ret I fin M (pc + 1) L (.int (M.i a (ix i)) :: S) o) : JJ G cc y nL D ret I fin M pc L (.int i :: .ref a :: S) o :=
  J_lift (fun p l e R s m args below meth c0 E M0 _ cx H locs ls k0 n Q _ _ hl _ hR hI w => W.bald (v := .int (M.i a (ix i))) cx.1 cx.2.1 (arrV_ref hR (ha hI).1 (by omega) (by omega)) ((cx.2.2.2.2.2.2.1.1.2 1 _ (tys_at E (c := 21) (by omega) (by omega))).1 _ _) (fun q => by cases q) (by rw [arrV_size]; exact (ha hI).2) (by show (arrV _ _ _).slots[_]? = _; exact arrV_read _ _ (ck_lt (ha hI).2)) rfl rfl d (w ls hl)) kk
theorem J_zald {a : Nat} {i : Int32} (ha : I M → (M.k a).1 = 22 ∧ vp_in i (M.k a).2) (d : decode cc pc = .ok (.baload, 1)) (kk : JJ G cc y nL D ret I fin M (pc + 1) L (.int (M.i a (ix i)) :: S) o) : JJ G cc y nL D ret I fin M pc L (.int i :: .ref a :: S) o :=
  J_lift (fun p l e R s m args below meth c0 E M0 _ cx H locs ls k0 n Q _ _ hl _ hR hI w => W.zald (v := .int (M.i a (ix i))) cx.1 cx.2.1 (arrV_ref hR (ha hI).1 (by omega) (by omega)) ((cx.2.2.2.2.2.2.1.1.2 2 _ (tys_at E (c := 22) (by omega) (by omega))).1 _ _) (fun q => by cases q) (by rw [arrV_size]; exact (ha hI).2) (by show (arrV _ _ _).slots[_]? = _; exact arrV_read _ _ (ck_lt (ha hI).2)) rfl rfl d (w ls hl)) kk
theorem J_lald {a : Nat} {i : Int32} (ha : I M → (M.k a).1 = 23 ∧ vp_in i (M.k a).2) (d : decode cc pc = .ok (.laload, 1)) (kk : JJ G cc y nL D ret I fin M (pc + 1) L (.long (M.l a (ix i)) :: S) o) : JJ G cc y nL D ret I fin M pc L (.int i :: .ref a :: S) o :=
  J_lift (fun p l e R s m args below meth c0 E M0 _ cx H locs ls k0 n Q _ _ hl _ hR hI w => W.lald (v := .long (M.l a (ix i))) cx.1 cx.2.1 (arrV_ref hR (ha hI).1 (by omega) (by omega)) ((cx.2.2.2.2.2.2.1.1.2 3 _ (tys_at E (c := 23) (by omega) (by omega))).1 _ _) (fun q => by cases q) (by rw [arrV_size]; exact (ha hI).2) (by show (arrV _ _ _).slots[_]? = _; exact arrV_read _ _ (ck_lt (ha hI).2)) rfl rfl d (w ls hl)) kk
theorem J_aald {a : Nat} {i : Int32} (ha : I M → (M.k a).1 = 24 ∧ vp_in i (M.k a).2) (d : decode cc pc = .ok (.aaload, 1)) (kk : JJ G cc y nL D ret I fin M (pc + 1) L (va_rf (M.r a (ix i)) :: S) o) : JJ G cc y nL D ret I fin M pc L (.int i :: .ref a :: S) o :=
  J_lift (fun p l e R s m args below meth c0 E M0 _ cx H locs ls k0 n Q _ _ hl _ hR hI w => W.aald (v := va_rf ((M.r a (ix i)).map E.ad)) (ty := aTy 24) cx.1 cx.2.1 (arrV_ref hR (ha hI).1 (by omega) (by omega)) ((cx.2.2.2.2.2.2.1.1.2 4 _ (tys_at E (c := 24) (by omega) (by omega))).1 _ _) rfl (fun q => by cases q) (by rw [arrV_size]; exact (ha hI).2) (by show (arrV _ _ _).slots[_]? = _; exact arrV_read _ _ (ck_lt (ha hI).2)) rfl rfl d (by
    have h := w ls hl
    rw [List.map_cons, tr_rf] at h
    exact h)) kk
theorem J_alen {a c : Nat} (h20 : 20 ≤ c) (h25 : c < 25) (ha : I M → (M.k a).1 = c) (d : decode cc pc = .ok (.arraylength, 1)) (kk : JJ G cc y nL D ret I fin M (pc + 1) L (.int (Int32.ofNat (M.k a).2) :: S) o) : JJ G cc y nL D ret I fin M pc L (.ref a :: S) o :=
  J_lift (fun p l e R s m args below meth c0 E M0 _ cx H locs ls k0 n Q _ _ hl _ hR hI w => W.alen (n := Int32.ofNat (M.k a).2) cx.1 cx.2.1 (arrV_ref hR (ha hI) h20 h25) ((cx.2.2.2.2.2.2.1.1.2 (c - 20) _ (tys_at E h20 h25)).1 _ _) (by rw [arrV_size] <;> rfl) rfl rfl d (w ls hl)) kk
theorem set_hf {c : Nat} {M M' : PM} {ad : Nat → Nat} {a k : Nat} {v : Value} (h1 : ∀ j, j ≠ k → fv (aTy c) M' ad a j = fv (aTy c) M ad a j) (h2 : fv (aTy c) M' ad a k = v) (j : Nat) : updV (fun j => fv (aTy c) M ad a j) k v j = fv (aTy c) M' ad a j := by
  by_cases h : j = k
  · subst h; rw [h2]; simp [updV]
  · rw [h1 j h]; simp [updV, h]
theorem J_iast {a : Nat} {i v : Int32} (ha : I M → (M.k a).1 = 20 ∧ vp_in i (M.k a).2) (hI : I M → I (M.si a (ix i) v)) (d : decode cc pc = .ok (.iastore, 1)) (kk : JJ G cc y nL D ret I fin (M.si a (ix i) v) (pc + 1) L S o) : JJ G cc y nL D ret I fin M pc L (.int v :: .int i :: .ref a :: S) o := by
  refine J_wr (M' := M.si a (ix i) v) ⟨rfl, rfl⟩ hI (fun p l e R s m args below meth c0 E M0 cx hi0 H locs ls k0 n Q _ _ hl0 hS hR w => ?_) kk
  have hd := hR.dom (ha hi0).1 (by omega)
  refine W.iast cx.1 cx.2.1 (arrV_ref hR (ha hi0).1 (by omega) (by omega)) ((cx.2.2.2.2.2.2.1.1.2 0 _ (tys_at E (c := 20) (by omega) (by omega))).1 _ _) (fun q => by cases q) (by rw [arrV_size]; exact (ha hi0).2) rfl rfl d (fun H1 e1 z1 o1 => ?_)
  rw [arrV_store] at e1
  exact w H1 _ (hR.set cx.2.2.2.2.2.1 (ha hi0).1 (by omega) (by omega) ⟨rfl, rfl⟩ (fun b hb => up2_same hb) (fun _ _ => rfl) (fun _ _ => rfl) z1 o1 e1 (set_hf (fun j hj => by show Value.int _ = Value.int _; rw [si_i, if_neg (fun q => hj q.2)]) (by show Value.int _ = Value.int _; rw [si_i]; exact congrArg _ (if_pos ⟨rfl, rfl⟩)))) (hS.put2 z1 o1 (cx.2.2.2.2.2.1.ge hd.1))
theorem J_bast {a : Nat} {i v : Int32} (ha : I M → (M.k a).1 = 21 ∧ vp_in i (M.k a).2) (hI : I M → I (M.si a (ix i) v.toInt8.toInt32)) (d : decode cc pc = .ok (.bastore, 1)) (kk : JJ G cc y nL D ret I fin (M.si a (ix i) v.toInt8.toInt32) (pc + 1) L S o) : JJ G cc y nL D ret I fin M pc L (.int v :: .int i :: .ref a :: S) o := by
  refine J_wr (M' := M.si a (ix i) v.toInt8.toInt32) ⟨rfl, rfl⟩ hI (fun p l e R s m args below meth c0 E M0 cx hi0 H locs ls k0 n Q _ _ hl0 hS hR w => ?_) kk
  have hd := hR.dom (ha hi0).1 (by omega)
  refine W.bast cx.1 cx.2.1 (arrV_ref hR (ha hi0).1 (by omega) (by omega)) ((cx.2.2.2.2.2.2.1.1.2 1 _ (tys_at E (c := 21) (by omega) (by omega))).1 _ _) (fun q => by cases q) (by rw [arrV_size]; exact (ha hi0).2) rfl rfl d (fun H1 e1 z1 o1 => ?_)
  rw [arrV_store] at e1
  exact w H1 _ (hR.set cx.2.2.2.2.2.1 (ha hi0).1 (by omega) (by omega) ⟨rfl, rfl⟩ (fun b hb => up2_same hb) (fun _ _ => rfl) (fun _ _ => rfl) z1 o1 e1 (set_hf (fun j hj => by show Value.int _ = Value.int _; rw [si_i, if_neg (fun q => hj q.2)]) (by show Value.int _ = Value.int _; rw [si_i]; exact congrArg _ (if_pos ⟨rfl, rfl⟩)))) (hS.put2 z1 o1 (cx.2.2.2.2.2.1.ge hd.1))
theorem J_zast {a : Nat} {i v : Int32} (hv : narrow .boolean (.int v) = .int v) (ha : I M → (M.k a).1 = 22 ∧ vp_in i (M.k a).2) (hI : I M → I (M.si a (ix i) v)) (d : decode cc pc = .ok (.bastore, 1)) (kk : JJ G cc y nL D ret I fin (M.si a (ix i) v) (pc + 1) L S o) : JJ G cc y nL D ret I fin M pc L (.int v :: .int i :: .ref a :: S) o := by
  refine J_wr (M' := M.si a (ix i) v) ⟨rfl, rfl⟩ hI (fun p l e R s m args below meth c0 E M0 cx hi0 H locs ls k0 n Q _ _ hl0 hS hR w => ?_) kk
  have hd := hR.dom (ha hi0).1 (by omega)
  refine W.zast cx.1 cx.2.1 (arrV_ref hR (ha hi0).1 (by omega) (by omega)) ((cx.2.2.2.2.2.2.1.1.2 2 _ (tys_at E (c := 22) (by omega) (by omega))).1 _ _) (fun q => by cases q) (by rw [arrV_size]; exact (ha hi0).2) rfl rfl d (fun H1 e1 z1 o1 => ?_)
  rw [hv, arrV_store] at e1
  exact w H1 _ (hR.set cx.2.2.2.2.2.1 (ha hi0).1 (by omega) (by omega) ⟨rfl, rfl⟩ (fun b hb => up2_same hb) (fun _ _ => rfl) (fun _ _ => rfl) z1 o1 e1 (set_hf (fun j hj => by show Value.int _ = Value.int _; rw [si_i, if_neg (fun q => hj q.2)]) (by show Value.int _ = Value.int _; rw [si_i]; exact congrArg _ (if_pos ⟨rfl, rfl⟩)))) (hS.put2 z1 o1 (cx.2.2.2.2.2.1.ge hd.1))
theorem J_last {a : Nat} {i : Int32} {v : Int64} (ha : I M → (M.k a).1 = 23 ∧ vp_in i (M.k a).2) (hI : I M → I (M.sl a (ix i) v)) (d : decode cc pc = .ok (.lastore, 1)) (kk : JJ G cc y nL D ret I fin (M.sl a (ix i) v) (pc + 1) L S o) : JJ G cc y nL D ret I fin M pc L (.long v :: .int i :: .ref a :: S) o := by
  refine J_wr (M' := M.sl a (ix i) v) ⟨rfl, rfl⟩ hI (fun p l e R s m args below meth c0 E M0 cx hi0 H locs ls k0 n Q _ _ hl0 hS hR w => ?_) kk
  have hd := hR.dom (ha hi0).1 (by omega)
  refine W.last cx.1 cx.2.1 (arrV_ref hR (ha hi0).1 (by omega) (by omega)) ((cx.2.2.2.2.2.2.1.1.2 3 _ (tys_at E (c := 23) (by omega) (by omega))).1 _ _) (fun q => by cases q) (by rw [arrV_size]; exact (ha hi0).2) rfl rfl d (fun H1 e1 z1 o1 => ?_)
  rw [arrV_store] at e1
  exact w H1 _ (hR.set cx.2.2.2.2.2.1 (ha hi0).1 (by omega) (by omega) ⟨rfl, rfl⟩ (fun _ _ => rfl) (fun b hb => up2_same hb) (fun _ _ => rfl) z1 o1 e1 (set_hf (fun j hj => by show Value.long _ = Value.long _; rw [sl_l, if_neg (fun q => hj q.2)]) (by show Value.long _ = Value.long _; rw [sl_l]; exact congrArg _ (if_pos ⟨rfl, rfl⟩)))) (hS.put2 z1 o1 (cx.2.2.2.2.2.1.ge hd.1))
/-- a Road into the array of Roads -/
theorem J_aast {a b : Nat} {i : Int32} (ha : I M → (M.k a).1 = 24 ∧ vp_in i (M.k a).2) (hb : I M → (M.k b).1 = 1) (hI : I M → I (M.sr a (ix i) (some b))) (d : decode cc pc = .ok (.aastore, 1)) (kk : JJ G cc y nL D ret I fin (M.sr a (ix i) (some b)) (pc + 1) L S o) : JJ G cc y nL D ret I fin M pc L (.ref b :: .int i :: .ref a :: S) o := by
  refine J_wr (M' := M.sr a (ix i) (some b)) ⟨rfl, rfl⟩ hI (fun p l e R s m args below meth c0 E M0 cx hi0 H locs ls k0 n Q _ _ hl0 hS hR w => ?_) kk
  have hd := hR.dom (ha hi0).1 (by omega)
  have hK := cx.2.2.2.2.2.2.1.1
  have h0 : ¬ i < 0 := fun q => (ha hi0).2 (Or.inl q)
  obtain ⟨cellV, g1, g2, g3, -⟩ := ob_of hR (hb hi0) (C := RX2) (T := TX2) (N := 6) rfl
  have hcls := (hK.1 1 (RX2, TX2, 6) rfl).2
  obtain ⟨kA, comp, k1, k2, k3, -⟩ := (hK.2 4 _ (tys_at E (c := 24) (by omega) (by omega))).2
  have hcomp : comp = E.D.1 1 := Option.some.inj (k3.symm.trans hcls.1)
  subst hcomp
  obtain ⟨kC, hkC, -⟩ := hcls.2
  refine W.aast cx.1 cx.2.1 (arrV_ref hR (ha hi0).1 (by omega) (by omega)) (fun q h => by cases h) (fun h => by cases h) k1 k2 rfl hkC ⟨h0, by rw [arrV_size]; exact ck_lt (ha hi0).2⟩ g1 (fun q h => by rw [g3] at h; cases h) (by rw [g2]; exact hkC) (by rw [g2]; exact va_assign hcls) rfl rfl d (fun H1 e1 z1 o1 => ?_)
  rw [arrV_store] at e1
  exact w H1 _ (hR.set cx.2.2.2.2.2.1 (ha hi0).1 (by omega) (by omega) ⟨rfl, rfl⟩ (fun _ _ => rfl) (fun _ _ => rfl) (fun b hb => up2_same hb) z1 o1 e1 (set_hf (fun j hj => by show va_rf _ = va_rf _; rw [sr_r, if_neg (fun q => hj q.2)]) (by show va_rf _ = Value.ref _; rw [sr_r, if_pos ⟨rfl, rfl⟩]; rfl))) (hS.put2 z1 o1 (cx.2.2.2.2.2.1.ge hd.1))
end JM
