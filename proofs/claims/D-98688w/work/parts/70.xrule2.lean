set_option maxRecDepth 100000
/-! THE SYSTEM READS A RULE: loops and recursion -/
section
variable {b : Nat → Nat} {e : Nat}
def xRh (h0 : Nat) (p nest : Nat) (r : Nat × Option Dn) (M : PM) (o : Option (Option Nat × PM)) : Prop := ∃ M', Gw (r.1 - p) M M' ∧ M'.i 20 17 = zn r.1 ∧ match r.2 with
  | some D => M'.i 20 19 = zn nest ∧ ∃ a h, o = some (some a, M') ∧ DenT M' h a D ∧ h ≤ h0 + (r.1 - p)
  | none => o = some (none, M')
theorem xs_acts {rank : Nat} (hr : rank ≤ 2) (M : PM) : x_acts (zn rank) M = some (some (4 + rank), M) := by
  rcases (show rank = 0 ∨ rank = 1 ∨ rank = 2 by omega) with r | r | r <;> (subst r; rfl)
theorem am_op {rank p : Nat} (hr : rank ≤ 2) (hb : b p < 256) : (amv b e (4 + rank) p < 0) = ¬ (p < e ∧ isop rank (b p) = true) := by
  unfold amv
  by_cases g : p < e
  · rw [if_pos g]
    rcases (show rank = 0 ∨ rank = 1 ∨ rank = 2 by omega) with r | r | r
    · subst r
      rw [idx_4 _ hb]
      cases isop 0 (b p) <;> simp [g]
    · subst r
      rw [idx_5 _ hb]
      cases isop 1 (b p) <;> simp [g]
    · subst r
      rw [idx_6 _ hb]
      cases isop 2 (b p) <;> simp [g]
  · rw [if_neg g]
    simp only [g, false_and, not_false_eq_true, eq_iff_iff, iff_true]
    decide
theorem xs_loop (he : e ≤ 40) {rank nest p0 : Nat} (hr : rank ≤ 2) {fr : Int32 → PM → Option (Option Nat × PM)} {ft : PM → Option (Option Nat × PM)} {sub : Nat → Nat × Option Dn} (hge : ∀ p, p ≤ (sub p).1 ∧ ((sub p).1 ≤ e ∨ (sub p).1 = p))
    (hs : ∀ p, p0 < p → p ≤ e → ∀ M, XP b e M → M.i 20 17 = zn p → M.i 20 19 = zn nest → xR b p nest (sub p) M (fr (zn (rank + 1)) M)) :
    ∀ f p D m M a h0, XP b e M → M.i 20 17 = zn p → M.i 20 19 = zn nest → DenT M h0 a D → p0 ≤ p → p ≤ e → e - p < f → e - p + 2 < m →
      xRh h0 p nest (plp sub b e rank f p D) M (b_x_reads_L20 (zn rank) (fun r6 M11 => some (r6, M11)) fr ft m (some a) 1 M) := by
  intro f
  induction f with
  | zero => intro p D m M a h0 _ _ _ _ _ _ q; exact absurd q (by omega)
  | succ f ih =>
    intro p D m M a h0 hX h17 h19 hd hp0 hpe hf hm
    obtain ⟨n, rfl⟩ : ∃ n, m = n + 1 := ⟨m - 1, by omega⟩
    obtain ⟨n', rfl⟩ : ∃ n', n = n' + 1 := ⟨n - 1, by omega⟩
    have hM := mp_id h17
    have t2 := hX.2.2.2.1 p
    have sam := xs_among hX (p := p) (i := 4 + rank) (by omega) (by omega)
    rw [← hM] at sam
    have hop := am_op (e := e) hr t2
    have c1 : zn rank + 1 = zn (rank + 1) := zn_addl rank 1
    unfold plp
    by_cases q : p < e ∧ isop rank (b p) = true
    · rw [if_pos q]
      have ha : ¬ amv b e (4 + rank) p < 0 := by rw [hop]; exact fun w => w q
      obtain ⟨N, hN⟩ : ∃ N, N = Mp M (p + 1) := ⟨_, rfl⟩
      have gN : Gw 0 M N := by rw [hN]; exact Gw.p
      have hpN : XP b e N := hX.gw gN
      have n17 : N.i 20 17 = zn (p + 1) := by rw [hN, si_i, if_pos ⟨rfl, rfl⟩]
      have n19 : N.i 20 19 = zn nest := by rw [hN, si_i, if_neg (by omega)]; exact h19
      have hx := hs (p + 1) (by omega) (by omega) N hpN n17 n19
      have hg := hge (p + 1)
      have e1 : zn p + 1 = zn (p + 1) := zn_addl p 1
      have ech := ch_of (b p) t2
      have e39 := hX.2.2.1 p (by omega)
      unfold pbn
      rcases hr2 : sub (p + 1) with ⟨r1, r2⟩
      rw [hr2] at hx hg
      have hg1 : p + 1 ≤ r1 := hg.1
      have hg2 : r1 ≤ e := by
        have := hg.2
        simp only at this
        omega
      cases r2 with
      | none =>
        obtain ⟨M', g, e17, eo⟩ := xR_n hx
        refine ⟨M', gN.tr g (by show 0 + (r1 - (p + 1)) ≤ r1 - p; omega), e17, ?_⟩
        show _ = some (none, M')
        simp (disch := omega) only [b_x_reads_L20, nl_s, nl_n, o_ne_z, ↓reduceIte, xs_acts hr, bd_s, rf_s, sam, ha, h17, ck_zn, ix_zn, e39, ech, lt_u, e1, ← hN, c1, eo, jn_u]
      | some E =>
        obtain ⟨M', g, e17, e19, a3, h3, eo, hd3, hh3⟩ := xR_s hx
        have hpM : XP b e M' := hpN.gw g
        have hn1 : 105 ≤ M'.n := hpM.1.2
        obtain ⟨M2, eo2, m1, m2, m3, m4, m5, m6, m7, m8⟩ := xs_ac hn1 (b p) t2 a a3 (M1 := M'.nw 6 0 5) rfl rfl
        obtain ⟨g2, i2, k2, n2⟩ := gw_mk (c := 6) (w := 5) (by omega) rfl m1 m2 m3 m4 m5
        have gA : Gw (r1 - p) M M2 := (gN.tr g (Nat.le_refl _)).tr g2 (by omega)
        have f17 : M2.i 20 17 = zn r1 := by rw [i2 20 (by omega)]; exact e17
        have f19 : M2.i 20 19 = zn nest := by rw [i2 20 (by omega)]; exact e19
        have hdA : DenT M2 (h0 + (r1 - (p + 1)) + 1) M'.n (fun q => cmb (zn (b p)) (D q) (E q)) := by
          refine ⟨⟨hn1, n2⟩, Or.inr (Or.inr (Or.inr ⟨k2, a, a3, D, E, m7, m8, ?_, ?_, by rw [m6]⟩))⟩
          · exact (((hd.gw gN).gw g).gw g2).mono (by omega)
          · exact (hd3.gw g2).mono (by omega)
        by_cases r0 : rank = 0
        · subst r0
          show xRh h0 p nest (r1, some (fun q => cmb (zn (b p)) (D q) (E q))) M _
          refine ⟨M2, gA, f17, f19, M'.n, h0 + (r1 - (p + 1)) + 1, ?_, hdA, ?_⟩
          · have z0 : zn 0 ≤ 0 := by decide
            simp (disch := omega) only [b_x_reads_L20, nl_s, nl_n, o_ne_z, ↓reduceIte, xs_acts hr, bd_s, rf_s, sam, ha, h17, ck_zn, ix_zn, e39, ech, lt_u, e1, ← hN, c1, eo, jn_u, eo2, z0]
          · show h0 + (r1 - (p + 1)) + 1 ≤ h0 + (r1 - p)
            omega
        · have hi := ih r1 (fun q => cmb (zn (b p)) (D q) (E q)) (n' + 1) M2 M'.n _ (hX.gw gA) f17 f19 hdA (by omega) hg2 (by omega) (by omega)
          have z0 : ¬ zn rank ≤ 0 := by
            intro w
            have : zn rank ≤ zn 0 := w
            rw [zn_le (by omega) (by omega)] at this
            omega
          have hL : b_x_reads_L20 (zn rank) (fun r6 M11 => some (r6, M11)) fr ft (n' + 1 + 1) (some a) 1 M = b_x_reads_L20 (zn rank) (fun r6 M11 => some (r6, M11)) fr ft (n' + 1) (some M'.n) 1 M2 := by
            rw [b_x_reads_L20]
            simp (disch := omega) only [nl_s, nl_n, o_ne_z, ↓reduceIte, xs_acts hr, bd_s, rf_s, sam, ha, h17, ck_zn, ix_zn, e39, ech, lt_u, e1, ← hN, c1, eo, jn_u, eo2, z0]
          rw [hL]
          show xRh h0 p nest (if rank = 0 then (r1, some (fun q => cmb (zn (b p)) (D q) (E q))) else plp sub b e rank f r1 (fun q => cmb (zn (b p)) (D q) (E q))) M _
          rw [if_neg r0]
          have hpg := (plp_ge sub b e rank hge f r1 (fun q => cmb (zn (b p)) (D q) (E q))).1
          obtain ⟨M3, g3, i17, rest⟩ := hi
          refine ⟨M3, gA.tr g3 (by omega), i17, ?_⟩
          revert rest hpg
          generalize plp sub b e rank f r1 (fun q => cmb (zn (b p)) (D q) (E q)) = R
          intro hpg rest
          rcases R with ⟨R1, R2⟩
          cases R2 with
          | none => exact rest
          | some DD =>
            obtain ⟨i19, a4, h4, eo4, hd4, hh4⟩ := rest
            refine ⟨i19, a4, h4, eo4, hd4, ?_⟩
            simp only at hh4 hpg ⊢
            omega
    · rw [if_neg q]
      have ha : amv b e (4 + rank) p < 0 := by rw [hop]; exact q
      refine ⟨M, Gw.rf.mo (by omega), h17, h19, a, h0, ?_, hd, by omega⟩
      simp (disch := omega) only [b_x_reads_L20, nl_s, nl_n, o_ne_z, ↓reduceIte, xs_acts hr, bd_s, rf_s, sam, ha, jn_u]
theorem xs_rule (he : e ≤ 40) : ∀ n k nest p, nest ≤ 4 → p ≤ e →
    (∀ rank, rank ≤ 3 → 6 * (4 - nest) + (5 - rank) + (e - p) < n → 6 * (4 - nest) + (5 - rank) + (e - p) < k → ∀ M, XP b e M → M.i 20 17 = zn p → M.i 20 19 = zn nest → xR b p nest (pz b e k rank nest p) M ((G_x_reads n).1 (zn rank) M)) ∧
    (6 * (4 - nest) + 1 + (e - p) < n → 6 * (4 - nest) + 1 + (e - p) < k → ∀ M, XP b e M → M.i 20 17 = zn p → M.i 20 19 = zn nest → xR b p nest (pz b e k 3 nest p) M ((G_x_reads n).2 M)) := by
  intro n
  induction n with
  | zero => intro k nest p _ _; exact ⟨fun _ _ q => absurd q (by omega), fun q => absurd q (by omega)⟩
  | succ n ih =>
    intro k nest p hn hp
    refine ⟨fun rank hr q1 q2 M hX h17 h19 => ?_, fun q1 q2 M hX h17 h19 => ?_⟩
    · by_cases r3 : rank = 3
      · subst r3
        have hx := (ih k nest p hn hp).2 (by omega) (by omega) M hX h17 h19
        show xR b p nest _ M (b_x_reads ((G_x_reads n).1) ((G_x_reads n).2) (zn 3) M)
        unfold b_x_reads
        rw [if_pos (show zn 3 = 3 from rfl)]
        rcases hr : pz b e k 3 nest p with ⟨r1, r2⟩
        rw [hr] at hx
        cases r2 with
        | none =>
          obtain ⟨M', g, e17, eo⟩ := xR_n hx
          refine ⟨M', g, e17, ?_⟩
          show _ = some (none, M')
          rw [eo, bd_s]
        | some D =>
          obtain ⟨M', g, e17, e19, a, h0, eo, hd, hh⟩ := xR_s hx
          exact ⟨M', g, e17, e19, a, h0, by rw [eo, bd_s], hd, hh⟩
      · obtain ⟨k, rfl⟩ : ∃ m, k = m + 1 := ⟨k - 1, by omega⟩
        have n3 : ¬ zn rank = 3 := by
          intro w
          have : zn rank = zn 3 := w
          exact r3 (zn_inj (by omega) (by omega) this)
        have c1 : zn rank + 1 = zn (rank + 1) := zn_addl rank 1
        have hx := (ih k nest p hn hp).1 (rank + 1) (by omega) (by omega) (by omega) M hX h17 h19
        have hg := pz_ge b e k (rank + 1) nest p
        unfold pz
        rw [if_neg r3]
        show xR b p nest _ M (b_x_reads ((G_x_reads n).1) ((G_x_reads n).2) (zn rank) M)
        unfold b_x_reads
        rw [if_neg n3, c1]
        unfold pbn
        rcases hr : pz b e k (rank + 1) nest p with ⟨r1, r2⟩
        rw [hr] at hx hg
        have hg1 : p ≤ r1 := hg.1
        have hg2 : r1 ≤ e := by
          have := hg.2
          simp only at this
          omega
        cases r2 with
        | none =>
          obtain ⟨M', g, e17, eo⟩ := xR_n hx
          refine ⟨M', g, e17, ?_⟩
          show _ = some (none, M')
          rw [eo, bd_s]
          unfold FU
          rw [b_x_reads_L20]
          rfl
        | some D =>
          obtain ⟨M', g, e17, e19, a, h0, eo, hd, hh⟩ := xR_s hx
          rw [eo, bd_s]
          have hl := xs_loop (p0 := p) he (rank := rank) (by omega) (fr := (G_x_reads n).1) (ft := (G_x_reads n).2) (sub := fun r => pz b e k (rank + 1) nest r) (fun q => pz_ge b e k (rank + 1) nest q) (fun q g1 g2 M hX h17 h19 => (ih k nest q hn g2).1 (rank + 1) (by omega) (by omega) (by omega) M hX h17 h19) 41 r1 D FU M' a h0 (hX.gw g) e17 e19 hd hg1 hg2 (by omega) (FU_lt (by omega))
          have hpg := (plp_ge (fun r => pz b e k (rank + 1) nest r) b e rank (fun q => pz_ge b e k (rank + 1) nest q) 41 r1 D).1
          show xR b p nest (plp (fun r => pz b e k (rank + 1) nest r) b e rank 41 r1 D) M _
          revert hl hpg
          generalize plp (fun r => pz b e k (rank + 1) nest r) b e rank 41 r1 D = R
          rcases R with ⟨R1, R2⟩
          rintro ⟨M3, g3, i17, rest⟩ hpg
          simp only at hpg hh g3
          refine ⟨M3, g.tr g3 (by show r1 - p + (R1 - r1) ≤ R1 - p; omega), i17, ?_⟩
          cases R2 with
          | none => exact rest
          | some DD =>
            obtain ⟨i19, a4, h4, eo4, hd4, hh4⟩ := rest
            refine ⟨i19, a4, h4, eo4, hd4, ?_⟩
            simp only at hh4 ⊢
            omega
    · obtain ⟨k, rfl⟩ : ∃ m, k = m + 1 := ⟨k - 1, by omega⟩
      exact xs_thing hX he hn hp h17 h19 (fun g M' a1 a2 a3 => (ih k nest (p + 1) hn (by omega)).2 (by omega) (by omega) M' a1 a2 a3) (fun g1 g2 M' a1 a2 a3 => (ih k (nest + 1) (p + 1) (by omega) (by omega)).1 0 (by omega) (by omega) (by omega) M' a1 a2 a3)
end
