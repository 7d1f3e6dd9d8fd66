set_option maxRecDepth 100000
/-! WORDS: the reference reads them -/
def bodyW (k : Nat) (M : PM) : Option (Unit × PM) := if (M.i 72 2) + zn k = 10 then m_fault (M.i 72 17) M else m_readWord (zn k) M
theorem mW_L (Kc : Int32 → PM → Option (Int32 × PM)) (n k : Nat) (v2 : Int32) (M : PM) : m_words_L24 Kc (n + 1) (zn k) v2 M = if v2 = 0 then Kc (zn k) M else bd (m_fine M) fun v3 M5 => if v3 = 0 then Kc (zn k) M5 else bd (bodyW k M5) fun _ M6 => bd (m_passes 59 M6) fun v5 M7 => m_words_L24 Kc n (zn (k + 1)) v5 M7 := by
  rw [m_words_L24]
  simp only [jn_u, lt_u, zn_addl]
  by_cases h : v2 = 0
  · rw [if_pos h, if_pos h]
  · rw [if_neg h, if_neg h]
    congr 1
    funext v3 M5
    by_cases h3 : v3 = 0
    · rw [if_pos h3, if_pos h3]
    · rw [if_neg h3, if_neg h3]
      unfold bodyW
      by_cases h4 : M5.i 72 2 + zn k = 10
      · rw [if_pos h4, if_pos h4]
      · rw [if_neg h4, if_neg h4]
theorem bb8 : ∀ v, v < 128 → (Int32.toInt8 ((Int32.toInt8 (zn v)).toInt32)).toInt32 = zn v := by decide +kernel
theorem hv_az {b : Nat → Nat} {e q : Nat} (hb : b q < 256) : (97 ≤ hv b e q ∧ hv b e q ≤ 122) = (q < e ∧ isaz (b q) = true) := by
  unfold hv
  apply propext
  by_cases g : q < e
  · rw [if_pos g, l_le_zn (by omega) (by omega), zn_le_l (by omega) (by omega), isaz_iff]
    exact ⟨fun w => ⟨g, w⟩, fun w => w.2⟩
  · rw [if_neg g]
    exact ⟨fun w => absurd w (by decide), fun w => absurd w.1 g⟩
theorem hv_dg {b : Nat → Nat} {e q : Nat} (hb : b q < 256) : (48 ≤ hv b e q ∧ hv b e q ≤ 57) = (q < e ∧ isd (b q) = true) := by
  unfold hv
  apply propext
  by_cases g : q < e
  · rw [if_pos g, l_le_zn (by omega) (by omega), zn_le_l (by omega) (by omega), isd_iff]
    exact ⟨fun w => ⟨g, w⟩, fun w => w.2⟩
  · rw [if_neg g]
    exact ⟨fun w => absurd w (by decide), fun w => absurd w.1 g⟩
def rdY (k : Nat) (F : Nat → DW) (M : PM) : Prop := ∀ i, i < k → okW (F i) ∧ M.i 82 (2 * i) = zn (F i).1 ∧ M.i 82 (2 * i + 1) = (F i).2.1 ∧ M.i 81 i = zn (F i).2.2.1 ∧ ∀ j, j < (F i).2.2.1 → M.i 80 (6 * i + j) = zn ((F i).2.2.2 j)
def yiW (n0 k : Nat) (F : Nat → DW) (M : PM) : Prop := n0 + k ≤ 10 ∧ M.i 72 2 = zn n0 ∧ rdY k F M
abbrev cwY (o j : Nat) : Prop := (80 ≤ o ∧ o ≤ 82) ∨ (o = 72 ∧ (j = 17 ∨ j = 18))
section
variable {M M1 : PM} {b : Nat → Nat} {e p n0 k : Nat} {F : Nat → DW}
theorem ps_one97 (h : RC 78 b e M) (h17 : M.i 72 17 = zn p) (hp : p ≤ 1000) : m_oneOf 97 26 M = if p < e ∧ isaz (b p) = true then some (zn (b p - 97), Ma M (p + 1)) else some (0, Mw M p) := by
  have := ps_oneOf h h17 hp (f := 97) (d := 26) (by omega) (by omega)
  have e1 : (p < e ∧ 97 ≤ b p ∧ b p < 97 + 26) = (p < e ∧ isaz (b p) = true) := by
    rw [isaz_iff]
    apply propext
    omega
  simp only [e1] at this
  exact this
theorem ps_one48 (h : RC 78 b e M) (h17 : M.i 72 17 = zn p) (hp : p ≤ 1000) : m_oneOf 48 10 M = if p < e ∧ isd (b p) = true then some (zn (b p - 48), Ma M (p + 1)) else some (0, Mw M p) := by
  have := ps_oneOf h h17 hp (f := 48) (d := 10) (by omega) (by omega)
  have e1 : (p < e ∧ 48 ≤ b p ∧ b p < 48 + 10) = (p < e ∧ isd (b p) = true) := by
    rw [isd_iff]
    apply propext
    omega
  simp only [e1] at this
  exact this
/-- one step of the letters' loop -/
theorem ms_l66 (hk : k < 10) (n : Nat) {q : Nat} (h : RC 78 b e M) (h17 : M.i 72 17 = zn q) (hq : q ≤ 1000) : m_readWord_L66 (zn k) (n + 1) M = (if ¬ M.i 81 k = 0 ∧ ¬ (q < e ∧ isaz (b q) = true) then some ((), M) else if M.i 81 k = 6 then (bd (m_fault (zn q) M) fun _ M13 => m_readWord_L66 (zn k) n M13) else (bd (m_oneOf 97 26 M) fun v5 M10 => ck ((6 * zn k) + (M.i 81 k)) 60 <| lt (M10.si 80 (ix ((6 * zn k) + (M.i 81 k))) ((Int32.toInt8 ((Int32.toInt8 v5).toInt32)).toInt32)) fun M11 => lt (M11.si 81 k ((M11.i 81 k) + 1)) fun M12 => m_readWord_L66 (zn k) n M12)) := by
  have hb := h.2.2.2.2.2.1 q
  rw [m_readWord_L66, bde (ps_fine h), if_neg (by decide)]
  simp (disch := omega) only [jn_u, ck_zn, ix_zn, h17]
  by_cases g0 : M.i 81 k = 0
  · rw [if_pos g0, if_neg (show ¬ (¬ M.i 81 k = 0 ∧ ¬ (q < e ∧ isaz (b q) = true)) from fun w => w.1 g0)]
  · rw [if_neg g0, bde (ps_here h h17 hq), m_in32]
    by_cases g1 : q < e ∧ isaz (b q) = true
    · rw [if_pos (show 97 ≤ hv b e q ∧ hv b e q ≤ 122 by rw [hv_az hb]; exact g1), bd_s, if_neg (by decide), if_neg (show ¬ (¬ M.i 81 k = 0 ∧ ¬ (q < e ∧ isaz (b q) = true)) from fun w => w.2 g1), h17]
    · rw [if_neg (show ¬ (97 ≤ hv b e q ∧ hv b e q ≤ 122) by rw [hv_az hb]; exact g1), bd_s, if_pos rfl, if_pos ⟨g0, g1⟩]
abbrev cl8 (k j o x : Nat) : Prop := (o = 80 ∧ 6 * k + j ≤ x) ∨ (o = 81 ∧ x = k) ∨ (o = 72 ∧ (x = 17 ∨ x = 18))
theorem ms_lnl (hk : k < 10) (he : e ≤ 80) : ∀ d j n q M, j + d = 6 → d + 2 < n → q ≤ e → RC 78 b e M → M.i 72 17 = zn q → M.i 81 k = zn j → (j = 0 → q < e ∧ isaz (b q) = true) → ∃ M', m_readWord_L66 (zn k) n M = some ((), M') ∧ Fq (cl8 k j) M M' ∧ M'.i 81 k = zn (j + lnl b e d q) ∧ (∀ x, x < lnl b e d q → M'.i 80 (6 * k + (j + x)) = zn (b (q + x) - 97)) ∧ ((RC 78 b e M' ∧ M'.i 72 17 = zn (q + lnl b e d q)) ∨ (M'.i 72 18 = zn (q + lnl b e d q) ∧ q + lnl b e d q < e ∧ isaz (b (q + lnl b e d q)) = true)) := by
  intro d
  induction d with
  | zero =>
    intro j n q M hj hn hq hR h17 h81 hj0
    obtain ⟨n, rfl⟩ : ∃ r, n = r + 1 + 1 := ⟨n - 2, by omega⟩
    have e6 : j = 6 := by omega
    subst e6
    rw [ms_l66 hk (n + 1) hR h17 (by omega), h81]
    by_cases g : q < e ∧ isaz (b q) = true
    · rw [if_neg (fun w => w.2 g), if_pos (by decide), bde (ps_fault hR h17), m_readWord_L66, bde (pf_fine (show q < 1000 by omega) (Mw.i18 M q)), if_pos rfl]
      refine ⟨Mw M q, rfl, (Mw.fq M q).mo (fun o x w => Or.inr (Or.inr w)), ?_, fun x w => absurd w (Nat.not_lt_zero x), Or.inr ⟨Mw.i18 M q, g⟩⟩
      rw [(Mw.fq M q).i _ _ (by omega)]; exact h81
    · rw [if_pos ⟨by decide, g⟩]
      exact ⟨M, rfl, Fq.rf, h81, fun x w => absurd w (Nat.not_lt_zero x), Or.inl ⟨hR, h17⟩⟩
  | succ d ih =>
    intro j n q M hj hn hq hR h17 h81 hj0
    obtain ⟨n, rfl⟩ : ∃ r, n = r + 1 := ⟨n - 1, by omega⟩
    have hb := hR.2.2.2.2.2.1 q
    rw [ms_l66 hk n hR h17 (by omega), h81]
    unfold lnl
    by_cases g : q < e ∧ isaz (b q) = true
    · have ho := ps_one97 hR h17 (show q ≤ 1000 by omega)
      have haz := isaz_iff.mp g.2
      rw [if_pos g] at ho
      obtain ⟨N, hN⟩ : ∃ N, N = ((Ma M (q + 1)).si 80 (6 * k + j) (zn (b q - 97))).si 81 k (zn (j + 1)) := ⟨_, rfl⟩
      have fN : Fq (cl8 k j) M N := by
        rw [hN]
        exact Fq.si (c := cl8 k j) (Fq.si (c := cl8 k j) ((Ma.fq M (q + 1)).mo (fun o x w => Or.inr (Or.inr ⟨w.1, Or.inl w.2⟩))) (Or.inl ⟨rfl, Nat.le_refl _⟩)) (Or.inr (Or.inl ⟨rfl, rfl⟩))
      have fN2 : Fq (fun o x => o = 80 ∨ o = 81) (Ma M (q + 1)) N := by
        rw [hN]
        exact Fq.si (c := fun o x => o = 80 ∨ o = 81) (Fq.si (c := fun o x => o = 80 ∨ o = 81) Fq.rf (Or.inl rfl)) (Or.inr rfl)
      obtain ⟨M', e1, f1, i1, r1, o1⟩ := ih (j + 1) n (q + 1) N (by omega) (by omega) (by omega) ((Ma.rc hR (q + 1)).fr fN2 (fun x w => by omega) (fun x => by omega)) ((fN2.i _ _ (by omega)).trans (Ma.i17 M (q + 1))) (by rw [hN, si_i, if_pos ⟨rfl, rfl⟩]) (fun w => absurd w (by omega))
      rw [if_pos g]
      have e8 : ((Ma M (q + 1)).si 80 (6 * k + j) (zn (b q - 97))).i 81 k = zn j := by rw [si_i, if_neg (by omega), (Ma.fq M (q + 1)).i _ _ (by omega)]; exact h81
      refine ⟨M', ?_, fN.tr (f1.mo (fun o x w => by unfold cl8; omega)), by rw [i1, show j + 1 + lnl b e d (q + 1) = j + (lnl b e d (q + 1) + 1) by omega], fun x hx => ?_, ?_⟩
      · rw [if_neg (fun w => w.2 g), if_neg (by rw [zn_eq_l (by omega) (by omega)]; omega), bde ho, zn_mull, zn_add, ck_zn (by omega) (by omega), ix_zn (by omega), bb8 _ (by omega), lt_u, e8, zn_addl, lt_u, ← hN]
        exact e1
      · rcases Nat.eq_zero_or_pos x with e0 | e0
        · subst e0
          rw [f1.i _ _ (by unfold cl8; omega), hN, si_i, if_neg (by omega), si_i, if_pos ⟨rfl, rfl⟩]
          rfl
        · have := r1 (x - 1) (by omega)
          rw [show j + 1 + (x - 1) = j + x by omega, show q + 1 + (x - 1) = q + x by omega] at this
          exact this
      · rw [show q + (lnl b e d (q + 1) + 1) = q + 1 + lnl b e d (q + 1) by omega]
        exact o1
    · rw [if_neg g]
      have j0 : ¬ j = 0 := fun w => g (hj0 w)
      rw [if_pos ⟨by rw [zn_eq_l (by omega) (by omega)]; exact j0, g⟩]
      exact ⟨M, rfl, Fq.rf, h81, fun x w => absurd w (Nat.not_lt_zero x), Or.inl ⟨hR, h17⟩⟩
end
