set_option maxRecDepth 100000
/-! TEXTS LINE BY LINE -/
abbrev bgx (o j : Nat) : Prop := o = 20 ∧ 16 ≤ j ∧ j ≤ 19
abbrev bgy (o j : Nat) : Prop := o = 72 ∧ (j = 10 ∨ (14 ≤ j ∧ j ≤ 18))
section
variable {c : Nat → Nat → Prop} {M M1 : PM} {b : Nat → Nat} {n m e p : Nat}
theorem XP.fr (h : XP b e M) (f : Fq c M M1) (h1 : ¬ c 20 18) (h2 : ∀ j, ¬ c 39 j) : XP b e M1 := by
  obtain ⟨⟨a1, a2⟩, a3, a4, a5⟩ := h
  exact ⟨⟨by rw [f.k]; exact a1, by rw [f.1]; exact a2⟩, by rw [f.i _ _ h1]; exact a3, fun k hk => by rw [f.i _ _ (h2 k)]; exact a4 k hk, a5⟩
theorem RC.fr (h : RC 78 b e M) (f : Fq c M M1) (h1 : ∀ j, (j = 14 ∨ j = 15 ∨ j = 16 ∨ j = 18) → ¬ c 72 j) (h2 : ∀ j, ¬ c 78 j) : RC 78 b e M1 := by
  obtain ⟨k1, a1, r1, ⟨L, T, l1, l2, l3⟩, t1, t2, w1⟩ := h
  exact ⟨by rw [f.k]; exact k1, a1, by rw [f.r _ _ (h1 14 (by omega))]; exact r1, ⟨L, T, by rw [f.i _ _ (h1 15 (by omega))]; exact l1, by rw [f.i _ _ (h1 16 (by omega))]; exact l2, l3⟩, fun k hk => by rw [f.i _ _ (h2 k)]; exact t1 k hk, t2, by rw [f.i _ _ (h1 18 (by omega))]; exact w1⟩
theorem xs_begins (h : TX n b M) (hs : Sh M) (hm : m ≤ 80) : ∃ M1, x_begins (zn m) M = some (zn n, M1) ∧ Fq bgx M M1 ∧ M1.i 20 17 = zn 0 ∧ M1.i 20 19 = zn 0 ∧ XP b (min n m) M1 ∧ TX 0 b M1 := by
  obtain ⟨⟨t1, t2⟩, t3, t4⟩ := h
  obtain ⟨M1, hM1⟩ : ∃ M1, M1 = (((M.si 20 16 0).si 20 17 0).si 20 19 0).si 20 18 (zn (min n m)) := ⟨_, rfl⟩
  have f : Fq bgx M M1 := by
    rw [hM1]
    exact (((Fq.si (c := bgx) Fq.rf ⟨rfl, by omega, by omega⟩).si ⟨rfl, by omega, by omega⟩).si ⟨rfl, by omega, by omega⟩).si ⟨rfl, by omega, by omega⟩
  refine ⟨M1, ?_, f, ?_, ?_, ⟨⟨by rw [f.k]; exact kd20 hs, by rw [f.1]; exact hs.1⟩, ?_, fun k hk => ?_, t2, by omega⟩, ⟨⟨by omega, t2⟩, ?_, fun k hk => ?_⟩⟩
  · unfold x_begins
    rw [t3, lt_u, lt_u, lt_u, lt_u, imin_zn (by omega) (by omega), lt_u, ← hM1]
  · rw [hM1, si_i, if_neg (by omega), si_i, if_neg (by omega), si_i, if_pos ⟨rfl, rfl⟩]; rfl
  · rw [hM1, si_i, if_neg (by omega), si_i, if_pos ⟨rfl, rfl⟩]; rfl
  · rw [hM1, si_i, if_pos ⟨rfl, rfl⟩]
  · rw [f.i _ _ (by unfold bgx; omega)]; exact t4 k hk
  · rw [hM1, si_i, if_neg (by omega), si_i, if_neg (by omega), si_i, if_neg (by omega), si_i, if_pos ⟨rfl, rfl⟩]; rfl
  · rw [f.i _ _ (by unfold bgx; omega)]; exact t4 k hk
theorem ms_beginText (h : TY n b M) (hs : Sh M) (hm : m ≤ 80) : ∃ M1, m_beginText (zn m) M = some ((), M1) ∧ Fq bgy M M1 ∧ M1.i 72 17 = zn 0 ∧ M1.i 72 15 = zn n ∧ RC 78 b (min n m) M1 ∧ TY 0 b M1 := by
  obtain ⟨⟨t1, t2⟩, t3, t4⟩ := h
  obtain ⟨M1, hM1⟩ : ∃ M1, M1 = (((((M.sr 72 14 (some 78)).si 72 15 (zn n)).si 72 16 (zn m)).si 72 17 0).si 72 18 (-1)).si 72 10 0 := ⟨_, rfl⟩
  have f : Fq bgy M M1 := by
    rw [hM1]
    exact (((((Fq.sr (c := bgy) Fq.rf ⟨rfl, by omega⟩).si ⟨rfl, by omega⟩).si ⟨rfl, by omega⟩).si ⟨rfl, by omega⟩).si ⟨rfl, by omega⟩).si ⟨rfl, by omega⟩
  have i15 : M1.i 72 15 = zn n := by rw [hM1, si_i, if_neg (by omega), si_i, if_neg (by omega), si_i, if_neg (by omega), si_i, if_neg (by omega), si_i, if_pos ⟨rfl, rfl⟩]
  refine ⟨M1, ?_, f, ?_, i15, ⟨⟨80, by rw [f.k]; exact kd78 hs, by omega, by omega⟩, by omega, ?_, ⟨n, m, i15, ?_, rfl, t1, hm⟩, fun k hk => ?_, t2, ?_⟩, ⟨⟨by omega, t2⟩, ?_, fun k hk => ?_⟩⟩
  · unfold m_beginText
    rw [t3, ms_begin, bd_s, lt_u, ← hM1]
  · rw [hM1, si_i, if_neg (by omega), si_i, if_neg (by omega), si_i, if_pos ⟨rfl, rfl⟩]; rfl
  · rw [hM1, si_r, si_r, si_r, si_r, si_r, sr_r, if_pos ⟨rfl, rfl⟩]
  · rw [hM1, si_i, if_neg (by omega), si_i, if_neg (by omega), si_i, if_neg (by omega), si_i, if_pos ⟨rfl, rfl⟩]
  · rw [f.i _ _ (by unfold bgy; omega)]; exact t4 k (by omega)
  · rw [hM1, si_i, if_neg (by omega), si_i, if_pos ⟨rfl, rfl⟩]
  · rw [hM1, si_i, if_pos ⟨rfl, rfl⟩]; rfl
  · rw [f.i _ _ (by unfold bgy; omega)]; exact t4 k hk
/-! a fault was found -/
theorem pf_fine (hp : p < 1000) (h : M.i 72 18 = zn p) : m_fine M = some (0, M) := by
  unfold m_fine
  rw [h, if_neg (by rw [zn_eq_m (by omega)]; exact id)]
theorem pf_fault (hp : p < 1000) (h : M.i 72 18 = zn p) (d : Int32) : m_fault d M = some ((), M) := by
  unfold m_fault
  rw [bde (pf_fine hp h), if_pos rfl]
theorem pf_passes (hp : p < 1000) (h : M.i 72 18 = zn p) (d : Int32) : m_passes d M = some (0, M) := by
  unfold m_passes
  rw [bde (pf_fine hp h), if_pos rfl]
theorem pf_need (hp : p < 1000) (h : M.i 72 18 = zn p) (d : Int32) : m_need d M = some ((), M) := by
  unfold m_need
  rw [bde (pf_passes hp h d), if_pos rfl, bde (pf_fault hp h _)]
theorem pf_oneOf (hp : p < 1000) (h : M.i 72 18 = zn p) (d f : Int32) : m_oneOf d f M = some (0, M) := by
  unfold m_oneOf
  rw [bde (pf_fine hp h), if_pos rfl]
theorem pf_number (hp : p < 1000) (h : M.i 72 18 = zn p) (d : Int32) : m_number d M = some (0, M) := by
  unfold m_number
  rw [bde (pf_oneOf hp h _ _)]
  show m_number_L11 d (29999 + 1) 0 1 M = _
  rw [m_number_L11]
  by_cases g : d ≤ 1
  · rw [if_pos g]
  · rw [if_neg g, bde (pf_fine hp h), if_pos rfl]
/-! none was found yet: at place p -/
theorem ma_id (h : M.i 72 17 = zn p) : Ma M p = M := by
  have := si_id M 72 17
  rw [h] at this
  exact this
theorem ps_fine (h : RC 78 b e M) : m_fine M = some (1, M) := by
  unfold m_fine
  rw [h.2.2.2.2.2.2, if_pos rfl]
theorem ps_here (h : RC 78 b e M) (h17 : M.i 72 17 = zn p) (hp : p ≤ 1000) : m_here M = some (hv b e p, M) := by
  have := ms_here h hp
  rwa [ma_id h17] at this
theorem ps_passes (h : RC 78 b e M) (h17 : M.i 72 17 = zn p) (hp : p ≤ 1000) {d : Nat} (hc : d < 256) : m_passes (zn d) M = if p < e ∧ b p = d then some (1, Ma M (p + 1)) else some (0, M) := by
  have := ms_passes h hp hc
  rwa [ma_id h17] at this
theorem ps_need (h : RC 78 b e M) (h17 : M.i 72 17 = zn p) (hp : p ≤ 1000) {d : Nat} (hc : d < 256) : m_need (zn d) M = if p < e ∧ b p = d then some ((), Ma M (p + 1)) else some ((), Mw M p) := by
  have := ms_need h hp hc
  rwa [ma_id h17] at this
theorem ps_fault (h : RC 78 b e M) (h17 : M.i 72 17 = zn p) : m_fault (zn p) M = some ((), Mw M p) := by
  have := ms_fault h p
  rwa [ma_id h17] at this
theorem ps_oneOf (h : RC 78 b e M) (h17 : M.i 72 17 = zn p) (hp : p ≤ 1000) {f d : Nat} (hf : f + d ≤ 128) (h1 : 1 ≤ f) : m_oneOf (zn f) (zn d) M = if p < e ∧ f ≤ b p ∧ b p < f + d then some (zn (b p - f), Ma M (p + 1)) else some (0, Mw M p) := by
  have := ms_oneOf h hp hf h1
  rwa [ma_id h17] at this
theorem ps_number (h : RC 78 b e M) (h17 : M.i 72 17 = zn p) {d : Nat} (hp : p + d < 1000) (hd : d + 1 ≤ 10) : m_number (zn (d + 1)) M = if p < e ∧ isd (b p) = true then some (zn (num b e (d + 1) p 0).2, Ma M (num b e (d + 1) p 0).1) else some (0, Mw M p) := by
  by_cases q : p < e ∧ isd (b p) = true
  · rw [if_pos q]
    have := ms_number h hp hd q
    rwa [ma_id h17] at this
  · rw [if_neg q]
    have := ms_numberF h (show p ≤ 1000 by omega) hd q
    rwa [ma_id h17] at this
theorem Ma.fq (M : PM) (q : Nat) : Fq (fun o j => o = 72 ∧ j = 17) M (Ma M q) := Fq.si (c := fun o j => o = 72 ∧ j = 17) Fq.rf ⟨rfl, rfl⟩
theorem Mw.fq (M : PM) (q : Nat) : Fq (fun o j => o = 72 ∧ (j = 17 ∨ j = 18)) M (Mw M q) := (Fq.si (c := fun o j => o = 72 ∧ (j = 17 ∨ j = 18)) Fq.rf ⟨rfl, Or.inl rfl⟩).si ⟨rfl, Or.inr rfl⟩
theorem Ma.i17 (M : PM) (q : Nat) : (Ma M q).i 72 17 = zn q := by rw [si_i, if_pos ⟨rfl, rfl⟩]
theorem Mw.i18 (M : PM) (q : Nat) : (Mw M q).i 72 18 = zn q := by rw [si_i, if_pos ⟨rfl, rfl⟩]
theorem Ma.rc (h : RC 78 b e M) (q : Nat) : RC 78 b e (Ma M q) := h.fr (Ma.fq M q) (fun j w => by omega) (fun j => by omega)
theorem Mp.fq (M : PM) (q : Nat) : Fq (fun o j => o = 20 ∧ j = 17) M (Mp M q) := Fq.si (c := fun o j => o = 20 ∧ j = 17) Fq.rf ⟨rfl, rfl⟩
theorem Mp.i17 (M : PM) (q : Nat) : (Mp M q).i 20 17 = zn q := by rw [si_i, if_pos ⟨rfl, rfl⟩]
/-! the system at place p -/
theorem xp_eats (h : XP b e M) (h17 : M.i 20 17 = zn p) (hp : p ≤ 1000) {d : Nat} (hc : d < 256) : x_eats (zn d) M = if p < e ∧ b p = d then some (1, Mp M (p + 1)) else some (0, M) := by
  have := xs_eats h hp hc
  rwa [← mp_id h17] at this
theorem xp_among (h : XP b e M) (h17 : M.i 20 17 = zn p) {i : Nat} (hp : p ≤ 1000) (hi : i = 1 ∨ i = 2 ∨ i = 3 ∨ i = 4 ∨ i = 5 ∨ i = 6 ∨ i = 8 ∨ i = 9) : x_among i M = some (amv b e i p, M) := by
  have := xs_among h hp hi
  rwa [← mp_id h17] at this
theorem xp_takesOf (h : XP b e M) (h17 : M.i 20 17 = zn p) {i : Nat} (hp : p ≤ 1000) (hi : i = 1 ∨ i = 2 ∨ i = 3 ∨ i = 4 ∨ i = 5 ∨ i = 6 ∨ i = 8 ∨ i = 9) : x_takesOf i M = if amv b e i p < 0 then some (amv b e i p, M) else some (amv b e i p, Mp M (p + 1)) := by
  have := xs_takesOf h hp hi
  rwa [← mp_id h17] at this
theorem xp_isDigit (h : XP b e M) (h17 : M.i 20 17 = zn p) (hp : p ≤ 1000) : x_isDigit M = some (if p < e ∧ isd (b p) = true then 1 else 0, M) := by
  have := xs_isDigit h hp
  rwa [← mp_id h17] at this
theorem xp_number (h : XP b e M) (h17 : M.i 20 17 = zn p) {d : Nat} (hp : p + d < 1000) (hd : d ≤ 10) : x_number (zn d) M = if p < e ∧ isd (b p) = true then some (zn (num b e d p 0).2, Mp M (num b e d p 0).1) else some (-1, M) := by
  have := xs_number h hp hd
  rwa [← mp_id h17] at this
theorem m1p_int (hp : p < 1000) : (-1 - zn p : Int32).toInt = -1 - (p : Int) := by
  rw [Int32.toInt_sub, zn_int (by omega), m1_int]
  exact Int.bmod_eq_of_le (by omega) (by omega)
theorem m1p_neg (hp : p < 1000) : ¬ (0 : Int32) ≤ -1 - zn p := by
  rw [Int32.le_iff_toInt_le, m1p_int hp, show ((0 : Int32).toInt) = 0 from by decide]
  omega
theorem xs_faultOf (h : XP b (min n m) M) (h17 : M.i 20 17 = zn p) (hp : p ≤ min n m) (hn : n ≤ 80) (g : Bool) : x_faultOf (zn n) (bo g) M = some (if g = true ∧ p = n then 0 else -1 - zn p, M) := by
  have h18 := h.2.1
  unfold x_faultOf
  simp only [lt_u, jn_u, h17, h18]
  by_cases c1 : n ≤ min n m
  · rw [if_pos (show zn n ≤ zn (min n m) by rw [zn_le (by omega) (by omega)]; exact c1)]
    cases g with
    | false => rw [if_pos (show (if bo false = 0 then (0 : Int32) else if zn p = zn (min n m) then 1 else 0) = 0 from if_pos (by decide)), if_neg (show ¬ (false = true ∧ p = n) from fun w => Bool.noConfusion w.1)]
    | true =>
      by_cases c2 : p = min n m
      · rw [if_neg (show ¬ (if bo true = 0 then (0 : Int32) else if zn p = zn (min n m) then 1 else 0) = 0 by rw [if_neg (by decide), if_pos (by rw [c2])]; decide), if_pos ⟨rfl, by omega⟩]
      · rw [if_pos (show (if bo true = 0 then (0 : Int32) else if zn p = zn (min n m) then 1 else 0) = 0 by rw [if_neg (by decide), if_neg (by rw [zn_eq (by omega) (by omega)]; exact c2)]), if_neg (show ¬ (true = true ∧ p = n) from fun w => c2 (by have := w.2; omega))]
  · rw [if_neg (show ¬ zn n ≤ zn (min n m) by rw [zn_le (by omega) (by omega)]; exact c1), if_neg (show ¬ (g = true ∧ p = n) from fun w => c1 (by have := w.2; omega))]
    by_cases c2 : p = min n m
    · rw [← c2]
      cases g with
      | false => rw [if_pos (show (if bo false = 0 then (0 : Int32) else if zn p = zn p then 1 else 0) = 0 from if_pos (by decide)), if_pos (by trivial)]
      | true => rw [if_neg (show ¬ (if bo true = 0 then (0 : Int32) else if zn p = zn p then 1 else 0) = 0 by rw [if_neg (by decide), if_pos (by trivial)]; decide)]
    · have c3 : ¬ zn p = zn (min n m) := by rw [zn_eq (by omega) (by omega)]; exact c2
      have z : (if bo g = 0 then (0 : Int32) else if zn p = zn (min n m) then 1 else 0) = 0 := by
        rw [if_neg c3]
        split <;> rfl
      rw [if_pos z, if_neg c3, if_pos z]
theorem wr_ok (h : RC 78 b e M) (h17 : M.i 72 17 = zn p) (h15 : M.i 72 15 = zn n) (hp : n ≤ p) (h8 : p < 1000) : m_wasRight M = some (1, M) := by
  unfold m_wasRight
  simp only [jn_u]
  rw [h15, h17, if_pos (by rw [zn_le (by omega) (by omega)]; exact hp), bde (ps_fine h), ckb_t (Or.inr rfl)]
theorem wr_at (h : RC 78 b e M) (h17 : M.i 72 17 = zn p) (h15 : M.i 72 15 = zn n) (hp : p < n) (h8 : n < 1000) : m_wasRight M = some (0, Mw M p) := by
  unfold m_wasRight
  simp only [jn_u]
  rw [h15, h17, if_neg (by rw [zn_le (by omega) (by omega)]; omega), bde (ps_fault h h17), bde (pf_fine (show p < 1000 by omega) (Mw.i18 M p)), ckb_t (Or.inl rfl)]
theorem wr_f (hp : p < 1000) (h : M.i 72 18 = zn p) : m_wasRight M = some (0, M) := by
  unfold m_wasRight
  simp only [jn_u]
  by_cases g : M.i 72 15 ≤ M.i 72 17
  · rw [if_pos g, bde (pf_fine hp h), ckb_t (Or.inl rfl)]
  · rw [if_neg g, bde (pf_fault hp h _), bde (pf_fine hp h), ckb_t (Or.inl rfl)]
end
