/-! ===== PURE: the twin's weeks ===== -/
def TwF (V : Nat → Nat → Int32) (t : Nat) (V' : Nat → Nat → Int32) : Prop := (∀ b, b ≠ t → b ≠ t + 1 → b ≠ t + 6 → V' b = V b) ∧ (∀ j, j < 9 ∨ j = 12 → V' t j = V t j) ∧ jz (V' t 15) ∧ jz (V' t 16)
theorem TwF.trans {V V1 V2 : Nat → Nat → Int32} {t : Nat} (h : TwF V t V1) (h2 : TwF V1 t V2) : TwF V t V2 :=
  ⟨fun b h1 h3 h4 => (h2.1 b h1 h3 h4).trans (h.1 b h1 h3 h4), fun j hj => (h2.2.1 j hj).trans (h.2.1 j hj), h2.2.2⟩
theorem TwF.ask {V V1 : Nat → Nat → Int32} {t : Nat} (h : AskF V t V1) : TwF V t V1 := ⟨fun b h1 _ h3 => h.1 b h1 h3, fun j hj => h.2.1 j (by omega), h.2.2⟩
theorem TwF.refl {V : Nat → Nat → Int32} {t : Nat} (h15 : jz (V t 15)) (h16 : jz (V t 16)) : TwF V t V := ⟨fun _ _ _ _ => rfl, fun _ _ => rfl, h15, h16⟩
theorem TwF.put {V V1 : Nat → Nat → Int32} {t : Nat} {f : Nat → Int32} (h : TwF V t V1) : TwF V t (vrow V1 (t + 1) f) :=
  ⟨fun b h1 h3 h4 => (vrow_n _ _ h3).trans (h.1 b h1 h3 h4), fun j hj => by rw [vrow_n _ _ (by omega)]; exact h.2.1 j hj, by rw [vrow_n _ _ (by omega)]; exact h.2.2.1, by rw [vrow_n _ _ (by omega)]; exact h.2.2.2⟩
theorem vrow_vrow {V : Nat → Nat → Int32} {k : Nat} {f g : Nat → Int32} : vrow (vrow V k f) k g = vrow V k g := by
  funext a
  unfold vrow
  split
  · rfl
  · rfl
theorem vset_row {V : Nat → Nat → Int32} {k i : Nat} {f : Nat → Int32} {y : Int32} : vset (vrow V k f) k i y = vrow V k (upd f i y) := by
  show vrow (vrow V k f) k (upd (vrow V k f k) i y) = _
  rw [vrow_s, vrow_vrow]
theorem vrow_id {V : Nat → Nat → Int32} {k : Nat} : vrow V k (V k) = V := by
  funext a
  unfold vrow
  split
  · next z => rw [z]
  · rfl
section WK
variable {sh : List jH} {V : Nat → Nat → Int32} {R : Nat → Nat → Option Nat} {t : Nat} {law : Option (List Ln)} {Q : Int32 → (Nat → Nat → Int32) → Prop} {P : (Nat → Nat → Int32) → Prop}
theorem s6_lim {c v : Int32} {Q : Int32 → Prop} (hq : Q (lim c v)) : wX6_lesser c v Q := by
  unfold lim at hq
  refine ⟨fun z => ?_, fun z => ?_⟩
  · rw [if_pos z] at hq; exact hq
  · rw [if_neg z] at hq; exact hq
theorem s6_putR {h w : Nat} {v : Int32} (hh : h < 8) (hw : w < 4) (hq : P (vrow V (t + 1) (upd (V (t + 1)) (11 + 4 * h + w) v))) : wX6_put t V (nI h) (nI w) v P := by
  unfold wX6_put
  have e : (11 : Int32) + (4 : Int32) * nI h + nI w = nI (11 + 4 * h + w) := p_ix3 11 4 h w
  rw [e]
  exact ⟨vp_in_nI (by omega) (by decide), by rw [nI_clamp (by omega)]; exact hq⟩
def sft (m : Nat → Int32) (k : Nat) : Nat → Int32 := fun j => if 259 + k < j ∧ j < 619 then m (j - 6) else m j
theorem s6_logs {h g q w j : Int32} (hq : P (vrow V (t + 1) (logR (V (t + 1)) h g q w j))) : wX6_logs t V h g q w j P := by
  obtain ⟨m, hm⟩ : ∃ m, m = V (t + 1) := ⟨_, rfl⟩
  rw [← hm] at hq
  suffices H : ∀ u k, k = u + 5 → k ≤ 359 → wX6_logs_5 t h g q w j P (u + 1) (vrow V (t + 1) (sft m k)) (nI k) from by
    have h9 := H 354 359 rfl (Nat.le_refl _)
    have e : sft m 359 = m := by
      funext i
      exact if_neg (by omega)
    rw [e, hm, vrow_id] at h9
    exact ⟨_, h9⟩
  intro u
  induction u with
  | zero =>
    intro k hk _
    subst hk
    rw [wX6_logs_5]
    refine br_t (by decide) ?_
    have e0 : vrow V (t + 1) (sft m 5) (t + 1) 6 = m 6 := by rw [vrow_s]; exact if_neg (by omega)
    rw [e0]
    refine nm_e ?_
    rw [vset_row, vset_row, vset_row, vset_row, vset_row, vset_row]
    refine s6_lim ?_
    rw [vrow_s, vset_row]
    have e9 : upd (upd (upd (upd (upd (upd (sft m 5) 259 (m 6)) 260 h) 261 g) 262 q) 263 w) 264 j 9 = m 9 := by
      rw [upd_n (by decide), upd_n (by decide), upd_n (by decide), upd_n (by decide), upd_n (by decide), upd_n (by decide)]
      exact if_neg (by omega)
    rw [e9]
    have e : upd (upd (upd (upd (upd (upd (upd (sft m 5) 259 (m 6)) 260 h) 261 g) 262 q) 263 w) 264 j) 9 (lim 60 (m 9 + 1)) = logR m h g q w j := by
      funext i
      unfold logR upd sft
      by_cases z : i = 9
      · rw [if_pos z, if_pos z]
      rw [if_neg z, if_neg z]
      by_cases z4 : i = 264
      · rw [if_pos z4, if_neg (by omega), if_neg (by omega), if_neg (by omega), if_neg (by omega), if_neg (by omega), if_pos z4]
      rw [if_neg z4]
      by_cases z3 : i = 263
      · rw [if_pos z3, if_neg (by omega), if_neg (by omega), if_neg (by omega), if_neg (by omega), if_pos z3]
      rw [if_neg z3]
      by_cases z2 : i = 262
      · rw [if_pos z2, if_neg (by omega), if_neg (by omega), if_neg (by omega), if_pos z2]
      rw [if_neg z2]
      by_cases z1 : i = 261
      · rw [if_pos z1, if_neg (by omega), if_neg (by omega), if_pos z1]
      rw [if_neg z1]
      by_cases z0 : i = 260
      · rw [if_pos z0, if_neg (by omega), if_pos z0]
      rw [if_neg z0]
      by_cases z9 : i = 259
      · rw [if_pos z9, if_pos z9]
      rw [if_neg z9, if_neg z9, if_neg z0, if_neg z1, if_neg z2, if_neg z3, if_neg z4]
    rw [e]
    exact hq
  | succ u ih =>
    intro k hk hk9
    rw [wX6_logs_5]
    have i1 : (259 : Int32) + nI k - (6 : Int32) = nI (253 + k) := by
      rw [show (259 : Int32) = nI 259 from rfl, nI_add, show (6 : Int32) = nI 6 from rfl, pk_sub (by omega)]
      exact congrArg nI (by omega)
    have i2 : (259 : Int32) + nI k = nI (259 + k) := by rw [show (259 : Int32) = nI 259 from rfl, nI_add]
    have i3 : nI k + (-1 : Int32) = nI (u + 5) := by rw [hk, show u + 1 + 5 = u + 5 + 1 by omega]; exact pk_m1 _
    rw [i1, i2, nI_clamp (by omega), nI_clamp (by omega), i3]
    refine br_f (nI_nlt (a := k) (b := 6) (by omega) (by omega)) ⟨vp_in_nI (by omega) (by decide), nm_e ⟨vp_in_nI (by omega) (by decide), nm_e ?_⟩⟩
    rw [vrow_s, vset_row]
    have e : upd (sft m k) (259 + k) (sft m k (253 + k)) = sft m (u + 5) := by
      funext i
      unfold upd sft
      by_cases z : i = 259 + k
      · rw [if_pos z, if_neg (by omega), if_pos (by omega), z]
        exact congrArg m (by omega)
      · rw [if_neg z]
        by_cases z2 : 259 + k < i ∧ i < 619
        · rw [if_pos z2, if_pos (by omega)]
        · rw [if_neg z2, if_neg (by omega)]
    rw [e]
    exact ih (u + 5) rfl (by omega)
theorem s6_meet {q : Nat} (hC : ConSh sh) (hR : RowOk (V (t + 1))) (hL : LawT (V (t + 1)) law) (h15 : jz (V t 15)) (h16 : jz (V t 16)) (hq8 : q < 8) (hq : ∀ V', TwF V t V' → V' t 20 = V t 20 → V' (t + 1) = (fo (meetS true law q) (nH (V (t + 1))) 0 (V (t + 1), 0, 0)).1 → Q (fo (meetS true law q) (nH (V (t + 1))) 0 (V (t + 1), 0, 0)).2.1 V') : wX6_meet t sh R V (nI q) Q := by
  have hH := hR.H; have h8 := hR.H8
  obtain ⟨m, hm⟩ : ∃ m, m = V (t + 1) := ⟨_, rfl⟩
  rw [← hm] at hR hL hq hH h8
  refine ⟨_, vloop (fun n (b : (Nat → Nat → Int32) × Int32) i => wX6_meet_4 t sh R (nI q) Q n b.1 b.2 (nI i)) (fun i b => TwF V t b.1 ∧ b.1 t 20 = V t 20 ∧ WkS m (b.1 (t + 1)) ∧ ∃ n, fo (meetS true law q) (nH m - i) i (b.1 (t + 1), b.2, n) = fo (meetS true law q) (nH m) 0 (m, 0, 0)) (nH m) ?_ ?_ (nH m) 0 (V, 0) (Nat.zero_add _) ⟨TwF.refl h15 h16, rfl, by rw [hm]; exact WkS.refl, 0, by rw [hm]; rfl⟩⟩
  · intro n b hI
    obtain ⟨f1, f2, f3, n0, f4⟩ := hI
    show wX6_meet_4 t sh R (nI q) Q (n + 1) b.1 b.2 (nI (nH m))
    rw [fo_end] at f4
    rw [wX6_meet_4, f3.1 3 (by omega)]
    have h9 := hq b.1 f1 f2
    rw [← f4] at h9
    exact br_t (by rw [hH]; exact Int32.le_refl _) (h9 rfl)
  · intro n b h hh hI hk
    obtain ⟨f1, f2, f3, n0, f4⟩ := hI
    rw [fo_pop hh] at f4
    show wX6_meet_4 t sh R (nI q) Q (n + 1) b.1 b.2 (nI h)
    rw [wX6_meet_4, f3.1 3 (by omega)]
    have hR2 := f3.row hR
    refine br_f (by rw [hH]; exact nI_ge hh (by omega)) (s6_wouldMeet hC hR2 (f3.law hL) f1.2.2.1 f1.2.2.2 (by omega) hq8 (fun V2 a2 e17 => p_bn ?_))
    have er := a2.row
    split
    · next w =>
      have hg := would_g hR2 (by omega) hq8 w
      have hg8 : gOf (b.1 (t + 1)) h q < 8 := by have := hR2.G8; omega
      refine s6_bookedIn (by omega) hq8 ?_
      rw [er, hg.2]
      refine s6_rankOf (by omega) hg8 ?_
      rw [er]
      have ej : ∀ Q9 : Int32 → Prop, Q9 (f_joy (b.1 (t + 1)) law h (gOf (b.1 (t + 1)) h q) q) → wX6_greater 0 (b.1 (t + 1) (67 + 8 * h + gOf (b.1 (t + 1)) h q) + V2 t 17) Q9 := by
        intro Q9 h9
        unfold f_joy at h9
        rw [e17 w]
        refine ⟨fun z => ?_, fun z => ?_⟩
        · rw [if_pos (show 0 ≤ b.1 (t + 1) (67 + 8 * h + gOf (b.1 (t + 1)) h q) + (f_ask (b.1 (t + 1)) law h (gOf (b.1 (t + 1)) h q) q).1 from z)] at h9
          exact h9
        · rw [if_neg (show ¬ 0 ≤ b.1 (t + 1) (67 + 8 * h + gOf (b.1 (t + 1)) h q) + (f_ask (b.1 (t + 1)) law h (gOf (b.1 (t + 1)) h q) q).1 from z)] at h9
          exact h9
      refine ej _ (s6_of (w := 2) (by omega) (by decide) (s6_lim (s6_putR (w := 2) (by omega) (by decide) (s6_logs ?_))))
      rw [er, vrow_s, vrow_vrow, show 11 + 4 * h + 2 = 13 + 4 * h by omega]
      have em : logR (upd (b.1 (t + 1)) (13 + 4 * h) (lim 999 (b.1 (t + 1) (13 + 4 * h) + f_joy (b.1 (t + 1)) law h (gOf (b.1 (t + 1)) h q) q))) (nI h) (nI (gOf (b.1 (t + 1)) h q)) (nI q) 0 (f_joy (b.1 (t + 1)) law h (gOf (b.1 (t + 1)) h q) q) = metR true (b.1 (t + 1)) law h q := by
        unfold metR
        rw [hg.2]
        rfl
      rw [em]
      refine nm_e (nm_r (nI_1 h) (hk (vrow V2 (t + 1) (metR true (b.1 (t + 1)) law h q), b.2 ||| ((1 : Int32) <<< (nI h &&& 31))) ⟨(f1.trans (TwF.ask a2)).put, ?_, ?_, n0 + 1, ?_⟩))
      · show vrow V2 (t + 1) (metR true (b.1 (t + 1)) law h q) t 20 = _
        rw [vrow_n _ _ (by omega)]
        exact (a2.2.1 20 (Or.inr (Or.inr rfl))).trans f2
      · show WkS m (vrow V2 (t + 1) (metR true (b.1 (t + 1)) law h q) (t + 1))
        rw [vrow_s]
        exact f3.trans (wk_met (by omega))
      · show fo (meetS true law q) (nH m - (h + 1)) (h + 1) (vrow V2 (t + 1) (metR true (b.1 (t + 1)) law h q) (t + 1), _, _) = _
        rw [vrow_s, ← f4]
        congr 1
        unfold meetS
        rw [if_pos w]
    · next w =>
      refine nm_r (nI_1 h) (hk (V2, b.2) ⟨f1.trans (TwF.ask a2), (a2.2.1 20 (Or.inr (Or.inr rfl))).trans f2, by show WkS m (V2 (t + 1)); rw [er]; exact f3, n0, ?_⟩)
      show fo (meetS true law q) (nH m - (h + 1)) (h + 1) (V2 (t + 1), _, _) = _
      rw [← f4, er]
      congr 1
      unfold meetS
      rw [if_neg w]
theorem TwF.set20 {V V1 : Nat → Nat → Int32} {t : Nat} {y : Int32} (h : TwF V t V1) : TwF V t (vset V1 t 20 y) :=
  ⟨fun b h1 h3 h4 => (vset_n _ _ _ h1).trans (h.1 b h1 h3 h4), fun j hj => by rw [vset_at, if_neg (by omega)]; exact h.2.1 j hj, by rw [vset_at]; exact h.2.2.1, by rw [vset_at]; exact h.2.2.2⟩
def clrK (m : Nat → Int32) (h k : Nat) : Nat → Int32 := fun j => if 195 + 8 * h ≤ j ∧ j < 195 + 8 * h + k then -1 else m j
theorem s6_closes {met : Int32} {h : Nat} (hh : h < 8) (h15 : jz (V t 15)) (h16 : jz (V t 16)) (hq : ∀ V', TwF V t V' → V' (t + 1) = (closeS true met h (V (t + 1), V t 20)).1 → V' t 20 = (closeS true met h (V (t + 1), V t 20)).2 → P V') : wX6_closes t V (nI h) (b2i (isOf met (nI h))) P := by
  obtain ⟨m, hm⟩ : ∃ m, m = V (t + 1) := ⟨_, rfl⟩
  have main : ∀ l, l = lonR m h met → wX6_closes_24 t (nI h) (b2i (isOf met (nI h))) P V (nI h) (nI 3) l := by
    intro l hl
    refine s6_putR (w := 3) hh (by decide) ?_
    rw [← hm, show 11 + 4 * h + 3 = 14 + 4 * h by omega]
    refine s6_of (w := 3) hh (by decide) (s6_of (w := 0) hh (by decide) ?_)
    rw [vrow_s, show 11 + 4 * h + 3 = 14 + 4 * h by omega, show 11 + 4 * h + 0 = 11 + 4 * h by omega, upd_s, upd_n (by omega)]
    rw [← hm] at hq
    unfold closeS at hq
    refine ⟨fun z => ?_, fun z => ?_⟩
    · rw [hl] at z
      rw [if_pos z, ← hl] at hq
      suffices H : ∀ u k, k + u = 8 → wX6_closes_45 t (nI h) (b2i (isOf met (nI h))) P (u + 1) (vrow V (t + 1) (clrK (upd m (14 + 4 * h) l) h k)) (nI k) from by
        have h9 := H 8 0 rfl
        rw [show clrK (upd m (14 + 4 * h) l) h 0 = upd m (14 + 4 * h) l by funext j; exact if_neg (by omega)] at h9
        exact ⟨_, h9⟩
      intro u
      induction u with
      | zero =>
        intro k hk
        obtain rfl : k = 8 := by omega
        rw [wX6_closes_45]
        refine br_t (by decide) (s6_putR (w := 3) hh (by decide) ?_)
        rw [vrow_s, vrow_vrow, show 11 + 4 * h + 3 = 14 + 4 * h by omega]
        refine s6_logs (h := nI h) ?_
        rw [vrow_s, vrow_vrow]
        refine nm_e ?_
        have e20 : vrow V (t + 1) (logR (upd (clrK (upd m (14 + 4 * h) l) h 8) (14 + 4 * h) 0) (nI h) (-1) (-1) 1 0) t 20 = V t 20 := by rw [vrow_n _ _ (by omega)]
        rw [e20]
        have ec : clrK (upd m (14 + 4 * h) l) h 8 = clr (upd m (14 + 4 * h) l) h := by
          funext j
          unfold clrK clr
          by_cases q : 195 + 8 * h ≤ j ∧ j < 203 + 8 * h
          · rw [if_pos q, if_pos (by omega)]
          · rw [if_neg q, if_neg (by omega)]
        refine hq _ (TwF.refl h15 h16).put.set20 ?_ ?_
        · rw [vset_n _ _ _ (by omega), vrow_s, ec]
          rfl
        · rw [vset_at, if_pos rfl]
      | succ u ih =>
        intro k hk
        rw [wX6_closes_45]
        have i1 : (195 : Int32) + (8 : Int32) * nI h + nI k = nI (195 + 8 * h + k) := p_ix3 195 8 h k
        rw [i1, nI_clamp (by omega), vset_row]
        refine br_f (nI_ge (a := k) (b := 8) (by omega) (by decide)) ⟨vp_in_nI (by omega) (by decide), nm_r (nI_1 k) ?_⟩
        have e : upd (clrK (upd m (14 + 4 * h) l) h k) (195 + 8 * h + k) (-1) = clrK (upd m (14 + 4 * h) l) h (k + 1) := by
          funext j
          show (if j = 195 + 8 * h + k then (-1 : Int32) else clrK (upd m (14 + 4 * h) l) h k j) = _
          unfold clrK
          by_cases q : j = 195 + 8 * h + k
          · rw [if_pos q, if_pos (by omega)]
          · rw [if_neg q]
            by_cases q2 : 195 + 8 * h ≤ j ∧ j < 195 + 8 * h + k
            · rw [if_pos q2, if_pos (by omega)]
            · rw [if_neg q2, if_neg (by omega)]
        rw [e]
        exact ih (k + 1) (by omega)
    · rw [hl] at z
      rw [if_neg z, ← hl] at hq
      exact hq _ (TwF.refl h15 h16).put (vrow_s _ _ _) (by show vrow V (t + 1) _ t 20 = V t 20; rw [vrow_n _ _ (by omega)])
  refine ⟨fun z => s6_of (w := 3) hh (by decide) (s6_lim (main _ ?_)), fun z => main 0 ?_⟩
  · unfold lonR
    rw [if_neg (b2i_0.mp z), ← hm, show 11 + 4 * h + 3 = 14 + 4 * h by omega]
  · unfold lonR
    rw [if_pos (Classical.byContradiction fun q => z (b2i_f q))]
theorem low_bit : ∀ (M : Fin 256) (g : Fin 8), M.val < 2 ^ g.val → ¬ isOf (nI M.val) (nI g.val) ∧ M.val ||| 2 ^ g.val < 2 ^ (g.val + 1) := by decide +kernel
theorem meet_bits {told : Bool} {q : Nat} : ∀ (k i : Nat) (m : Nat → Int32) (M : Nat), i + k ≤ 8 → M < 2 ^ i → ∃ M2, M2 < 256 ∧ (fo (meetS told law q) k i (m, nI M, nI (pc M))).2.1 = nI M2 ∧ (fo (meetS told law q) k i (m, nI M, nI (pc M))).2.2 = nI (pc M2) := by
  intro k
  induction k with
  | zero =>
    intro i m M h1 h2
    have h3 : 2 ^ i ≤ 2 ^ 8 := Nat.pow_le_pow_right (by decide) (by omega)
    exact ⟨M, by omega, rfl, rfl⟩
  | succ k ih =>
    intro i m M h1 h2
    have h3 : 2 ^ i ≤ 2 ^ 8 := Nat.pow_le_pow_right (by decide) (by omega)
    have h5 : 2 ^ i ≤ 2 ^ (i + 1) := Nat.pow_le_pow_right (by decide) (by omega)
    show ∃ M2, M2 < 256 ∧ (fo (meetS told law q) k (i + 1) (meetS told law q i (m, nI M, nI (pc M)))).2.1 = nI M2 ∧ (fo (meetS told law q) k (i + 1) (meetS told law q i (m, nI M, nI (pc M)))).2.2 = nI (pc M2)
    unfold meetS
    split
    · obtain ⟨b1, b2⟩ := low_bit ⟨M, by omega⟩ ⟨i, by omega⟩ h2
      obtain ⟨c1, c2, c3⟩ := mask_step ⟨M, by omega⟩ ⟨i, by omega⟩ b1
      have c1' : nI M ||| ((1 : Int32) <<< (nI i &&& 31)) = nI (M ||| 2 ^ i) := c1
      have c3' : pc (M ||| 2 ^ i) = pc M + 1 := c3
      show ∃ M2, M2 < 256 ∧ (fo (meetS told law q) k (i + 1) (metR told m law i q, nI M ||| ((1 : Int32) <<< (nI i &&& 31)), nI (pc M) + 1)).2.1 = nI M2 ∧ (fo (meetS told law q) k (i + 1) (metR told m law i q, nI M ||| ((1 : Int32) <<< (nI i &&& 31)), nI (pc M) + 1)).2.2 = nI (pc M2)
      rw [c1', nI_1, ← c3']
      exact ih (i + 1) _ _ (by omega) b2
    · exact ih (i + 1) m M (by omega) (by omega)
/-- who met before is kept apart -/
theorem meet_off {told : Bool} {q : Nat} : ∀ (k i : Nat) (m : Nat → Int32) (s0 n0 s n : Int32), fo (meetS told law q) k i (m, s0 ||| s, n0 + n) = ((fo (meetS told law q) k i (m, s, n)).1, s0 ||| (fo (meetS told law q) k i (m, s, n)).2.1, n0 + (fo (meetS told law q) k i (m, s, n)).2.2) := by
  intro k
  induction k with
  | zero => intro i m s0 n0 s n; rfl
  | succ k ih =>
    intro i m s0 n0 s n
    show fo (meetS told law q) k (i + 1) (meetS told law q i (m, s0 ||| s, n0 + n)) = ((fo (meetS told law q) k (i + 1) (meetS told law q i (m, s, n))).1, s0 ||| (fo (meetS told law q) k (i + 1) (meetS told law q i (m, s, n))).2.1, n0 + (fo (meetS told law q) k (i + 1) (meetS told law q i (m, s, n))).2.2)
    have e : meetS told law q i (m, s0 ||| s, n0 + n) = ((meetS told law q i (m, s, n)).1, s0 ||| (meetS told law q i (m, s, n)).2.1, n0 + (meetS told law q i (m, s, n)).2.2) := by
      unfold meetS
      show (if f_would m law i q = true then _ else _) = _
      by_cases w : f_would m law i q = true
      · rw [if_pos w, if_pos (show f_would (m, s, n).1 law i q = true from w)]
        show (_, _, _) = (_, _, _)
        rw [Int32.or_assoc, Int32.add_assoc]
      · rw [if_neg w, if_neg (show ¬ f_would (m, s, n).1 law i q = true from w)]
    rw [e, ih]
end WK
