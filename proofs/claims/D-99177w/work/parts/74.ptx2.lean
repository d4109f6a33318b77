/-! ===== PURE: the twin reads numbers, letters, hours ===== -/
theorem vl_lt {T : Nat → Nat} : ∀ (k b v : Nat), (∀ i, i < k → pFi (T (b + i)) = true) → vl T k b v < (v + 1) * 10 ^ k := by
  intro k
  induction k with
  | zero => intro b v _; show v < (v + 1) * 1; omega
  | succ k ih =>
    intro b v h
    rw [vl_s]
    have h1 := ih b v (fun i hi => h i (by omega))
    have h2 := pFi_iff.mp (h k (by omega))
    rw [show (v + 1) * 10 ^ (k + 1) = 10 * ((v + 1) * 10 ^ k) by rw [Nat.pow_succ]; rw [← Nat.mul_assoc]; exact Nat.mul_comm _ _]
    omega
theorem pNum_le {lo hi : Int32} {T : Nat → Nat} {L a : Nat} (h : a ≤ L) : pO (pNum lo hi T L a) (fun b => b ≤ L) (fun v e => a < e ∧ e ≤ L ∧ v < 1000 ∧ inI (nI v) lo hi) := by
  unfold pNum
  have h1 := sk_le (T := T) h
  have h2 := fg_le (T := T) h1
  have h3 := sk_ge (T := T) (L := L) (a := a)
  split
  · next z =>
    refine ⟨by omega, h2, ?_, z.2.2⟩
    refine Nat.lt_of_lt_of_le (vl_lt _ _ _ (fun i hi => rn_mem (p := pFi) (T := T) (k := L - sk T L a) (a := sk T L a) (by omega) (by show _ < fg T L (sk T L a); omega))) ?_
    have : 10 ^ (fg T L (sk T L a) - sk T L a) ≤ 10 ^ 3 := Nat.pow_le_pow_right (by decide) (by omega)
    omega
  · exact h1
theorem pAfter_le {w : List Nat} {lo hi : Int32} {T : Nat → Nat} {L a : Nat} (h : a ≤ L) : pO (pAfter w lo hi T L a) (fun b => b ≤ L) (fun v e => a < e ∧ e ≤ L ∧ v < 1000 ∧ inI (nI v) lo hi) := by
  unfold pAfter
  split
  · have h1 := pNum_le (lo := lo) (hi := hi) (T := T) (afW_le (T := T) (w := w) h)
    have h2 := afW_ge (w := w) (T := T) (L := L) (a := a)
    generalize pNum lo hi T L (afW w T L a) = r at h1
    rcases r with b | ⟨v, e⟩
    · exact h1
    · exact ⟨Nat.lt_of_le_of_lt h2 h1.1, h1.2⟩
  · exact sk_le h
section TX4
variable {sh : List jH} {R : Nat → Nat → Option Nat} {V : Nat → Nat → Int32} {t L a d : Nat} {f lo hi : Int32} {T : Nat → Nat} {Q : Int32 → (Nat → Nat → Int32) → Prop} {P : (Nat → Nat → Int32) → Prop}
theorem f_ne {b : Nat} (h : b ≤ 1000) : ¬ nI b = -1 := nI_nm1 (by omega)
theorem s6_figuresF (hf : ¬ f = -1) (hq : Q 0 (tx V t a f d)) : wX6_figures t (tx V t a f d) lo hi Q := by
  unfold wX6_figures
  rw [tx_f]
  exact ⟨fun z => absurd z hf, fun _ => hq⟩
theorem s6_figures (hT : TxtT V t T L) (ha : a ≤ L) (hq : pO (pNum lo hi T L a) (fun b => ∀ v a2, v < 10000 → a2 ≤ L → Q (nI v) (tx V t a2 (nI b) d)) (fun v e => Q (nI v) (tx V t e (-1) d))) : wX6_figures t (tx V t a (-1) d) lo hi Q := by
  have hL := hT.1
  unfold wX6_figures
  rw [tx_f]
  refine br_t rfl (s6_here hT (by omega) ?_)
  have hb := sk_le (T := T) ha
  obtain ⟨b, hbe⟩ : ∃ b, b = sk T L a := ⟨_, rfl⟩
  have hfg : fg T L b ≤ L := fg_le (by omega)
  have hfg2 : b ≤ fg T L b := fg_ge
  have hbad : ¬ (b < fg T L b ∧ fg T L b ≤ b + 3 ∧ inI (nI (vl T (fg T L b - b) b 0)) lo hi) → ∀ v a2, v < 10000 → a2 ≤ L → Q (nI v) (tx V t a2 (nI b) d) := by
    intro z
    unfold pNum at hq
    rw [← hbe, if_neg z] at hq
    exact hq
  have hok : (b < fg T L b ∧ fg T L b ≤ b + 3 ∧ inI (nI (vl T (fg T L b - b) b 0)) lo hi) → Q (nI (vl T (fg T L b - b) b 0)) (tx V t (fg T L b) (-1) d) := by
    intro z
    unfold pNum at hq
    rw [← hbe, if_pos z] at hq
    exact hq
  rw [← hbe] at hb ⊢
  have wr : ∀ a2 v, v < 10000 → a2 ≤ L → ¬ (b < fg T L b ∧ fg T L b ≤ b + 3 ∧ inI (nI (vl T (fg T L b - b) b 0)) lo hi) → wX6_figures_119 t lo hi Q (tx V t a2 (-1) d) (nI b) (nI v) := by
    intro a2 v h0 h1 h2
    refine s6_fwrong ?_
    rw [if_pos rfl]
    exact hbad h2 v a2 h0 h1
  suffices H : ∀ r j, j + r = 4 → b + j ≤ L → (∀ i, i < j → pFi (T (b + i)) = true) → wX6_figures_18 t lo hi Q (r + 1) (tx V t (b + j) (-1) d) (nI b) (nI (vl T j b 0)) from ⟨_, H 4 0 (by omega) (by omega) (fun i hi => absurd hi (by omega))⟩
  have stop : ∀ j, j ≤ 4 → b + j ≤ L → (∀ i, i < j → pFi (T (b + i)) = true) → ¬ (b + j < L ∧ pFi (T (b + j)) = true) → wX6_figures_89 t lo hi Q (tx V t (b + j) (-1) d) (nI b) (nI (vl T j b 0)) := by
    intro j hj hjL hh hs
    have h0 : vl T j b 0 < 10000 := by
      have h1 := vl_lt (T := T) j b 0 hh
      have h2 : 10 ^ j ≤ 10 ^ 4 := Nat.pow_le_pow_right (by decide) hj
      omega
    have he : fg T L b = b + j := (rn_add j b hjL hh).trans (rn_no hs)
    unfold wX6_figures_89
    rw [tx_a]
    refine ⟨fun z => wr _ _ h0 hjL (fun q => ?_), fun z => ⟨fun z2 => wr _ _ h0 hjL (fun q => ?_), fun z2 => ⟨fun z3 => wr _ _ h0 hjL (fun q => ?_), fun z3 => ⟨fun z4 => ?_, fun z4 => wr _ _ h0 hjL (fun q => ?_)⟩⟩⟩⟩
    · have := (nI_eq (by omega) (by omega)).mp z; omega
    · rw [pk_sub (by omega), show (3 : Int32) = nI 3 from rfl, nI_ltI (by decide) (by omega)] at z2; omega
    · rw [he, show b + j - b = j by omega] at q; exact q.2.2.1 z3
    · have e1 : ¬ j = 0 := fun q => z (by rw [q]; rfl)
      rw [pk_sub (by omega), show (3 : Int32) = nI 3 from rfl, nI_ltI (by decide) (by omega)] at z2
      have := hok
      rw [he, show b + j - b = j by omega] at this
      exact this ⟨by omega, by omega, z3, Int32.not_lt.mpr z4⟩
    · rw [he, show b + j - b = j by omega] at q; exact z4 (Int32.not_lt.mp q.2.2.2)
  intro r
  induction r with
  | zero =>
    intro j hr hj hh
    obtain rfl : j = 4 := by omega
    rw [wX6_figures_18, tx_10 hT, tx_a]
    have h0 : vl T 4 b 0 < 10000 := by have h1 := vl_lt (T := T) 4 b 0 hh; omega
    have h3 : (3 : Int32) < nI (b + 4) - nI b := by rw [pk_sub (by omega), show b + 4 - b = 4 by omega]; decide
    by_cases z : b + 4 < L
    · refine br_f (nI_ge z (by omega)) (s6_letter hT z (s6_isIn (p_bz ?_)))
      split
      · next z2 =>
        refine br_t h3 ?_
        unfold wX6_figures_89
        rw [tx_a]
        have no : ¬ (b < fg T L b ∧ fg T L b ≤ b + 3 ∧ inI (nI (vl T (fg T L b - b) b 0)) lo hi) := fun q => by
          have e1 : fg T L b = fg T L (b + 4) := rn_add 4 b hj hh
          have e2 := fg_ge (T := T) (L := L) (a := b + 4)
          omega
        exact ⟨fun z4 => wr _ _ h0 hj no, fun z4 => br_t h3 (wr _ _ h0 hj no)⟩
      · next z2 => exact stop 4 (by omega) hj hh (fun q => z2 ((inI_fi (hT.2.2.1 _ z)).mpr q.2))
    · exact br_t (nI_le (by omega) (by omega)) (stop 4 (by omega) hj hh (fun q => z q.1))
  | succ r ih =>
    intro j hr hj hh
    rw [wX6_figures_18, tx_10 hT, tx_a]
    by_cases z : b + j < L
    · refine br_f (nI_ge z (by omega)) (s6_letter hT z (s6_isIn (p_bz ?_)))
      have h256 := hT.2.2.1 _ z
      split
      · next z2 =>
        have hf := (inI_fi h256).mp z2
        refine br_f ?_ (s6_letter hT z ?_)
        · rw [pk_sub (by omega), show (3 : Int32) = nI 3 from rfl, nI_ltI (by decide) (by omega)]; omega
        · refine nm_r (e' := nI (vl T (j + 1) b 0)) ?_ (nm_r (nI_1 _) ?_)
          · rw [vl_s, show (10 : Int32) = nI 10 from rfl, show (48 : Int32) = nI 48 from rfl, pk_mul, nI_add, pk_sub (by have := pFi_iff.mp hf; omega)]
          · rw [txs_a]
            refine ih (j + 1) (by omega) (by omega) (fun i hi => ?_)
            rcases Nat.lt_succ_iff_lt_or_eq.mp hi with z3 | rfl
            · exact hh i z3
            · exact hf
      · next z2 => exact stop j (by omega) hj hh (fun q => z2 ((inI_fi h256).mpr q.2))
    · exact br_t (nI_le (by omega) (by omega)) (stop j (by omega) hj hh (fun q => z q.1))
theorem s6_afterF {k : Nat} (hf : ¬ f = -1) (hq : Q 0 (tx V t a f d)) : wX6_after t sh R (tx V t a f d) k lo hi Q := by
  unfold wX6_after
  rw [tx_f]
  exact ⟨fun _ => s6_figuresF hf hq, fun z => absurd z hf⟩
theorem s6_after {k : Nat} {w : List Nat} (hw : 0 < w.length) (hS : ∀ V R, StrG (mk sh V R) k w) (hT : TxtT V t T L) (ha : a ≤ L) (hq : pO (pAfter w lo hi T L a) (fun b => ∀ v a2, v < 10000 → a2 ≤ L → Q (nI v) (tx V t a2 (nI b) d)) (fun v e => Q (nI v) (tx V t e (-1) d))) : wX6_after t sh R (tx V t a (-1) d) k lo hi Q := by
  have hL := hT.1
  unfold wX6_after
  rw [tx_f]
  refine ⟨fun z => absurd rfl z, fun _ => s6_has hw hS hT (by omega) ?_⟩
  unfold pAfter at hq
  split
  · next z =>
    rw [if_pos z] at hq
    exact ⟨fun _ => s6_figures hT (afW_le ha) hq, fun z2 => absurd z2 (by decide)⟩
  · next z =>
    rw [if_neg z] at hq
    refine ⟨fun z2 => absurd rfl z2, fun _ => ?_⟩
    rw [show afW w T L a = sk T L a from if_neg z, tx_a]
    refine s6_fwrong ?_
    rw [if_pos rfl]
    have hs := sk_le (T := T) ha
    exact s6_figuresF (f_ne (by omega)) (hq 0 _ (by decide) hs)
theorem s6_lettersF (hf : ¬ f = -1) (hq : Q 0 (tx V t a f d)) : wX6_letters t (tx V t a f d) Q := by
  unfold wX6_letters
  rw [tx_f]
  exact ⟨fun z => absurd z hf, fun _ => hq⟩
theorem s6_letters (hT : TxtT V t T L) (ha : a ≤ L) (hq : pO (pLet T L a) (fun b => ∀ v a2, a2 ≤ L → Q v (tx V t a2 (nI b) d)) (fun v e => Q v (tx V t e (-1) d))) : wX6_letters t (tx V t a (-1) d) Q := by
  have hL := hT.1
  unfold wX6_letters
  rw [tx_f]
  refine br_t rfl (s6_here hT (by omega) ?_)
  have hb := sk_le (T := T) ha
  have hwl : wd T L (sk T L a) ≤ L := wd_le hb
  have hwg : sk T L a ≤ wd T L (sk T L a) := wd_ge
  unfold pLet letZ at hq
  generalize hb0 : sk T L a = b at *
  generalize he0 : wd T L b = e at *
  suffices H : ∀ r j z, j + r = e → b ≤ j → (pO (if b < e ∧ (fo (fun i z => letS (T i) z) r j z).1 = true then .inr ((fo (fun i z => letS (T i) z) r j z).2, e) else .inl b : Pz Int32) (fun b => ∀ v a2, a2 ≤ L → Q v (tx V t a2 (nI b) d)) (fun v e => Q v (tx V t e (-1) d))) → wX6_letters_19 t Q (r + 1) (tx V t j (-1) d) (nI b) z.2 (b2i (z.1 = true)) from ⟨_, H (e - b) b (true, 0) (by omega) (Nat.le_refl _) hq⟩
  intro r
  induction r with
  | zero =>
    intro j z hj hbj hq
    obtain rfl : j = e := by omega
    have fin : wX6_letters_119 t Q (tx V t j (-1) d) (nI b) z.2 (b2i (z.1 = true)) := by
      unfold wX6_letters_119
      rw [tx_a]
      by_cases z1 : b < j ∧ z.1 = true
      · rw [show (fo (fun i z => letS (T i) z) 0 j z) = z from rfl, if_pos z1] at hq
        rw [b2i_t z1.2]
        exact ⟨fun q => absurd ((nI_eq (by omega) (by omega)).mp q) (by omega), fun _ => ⟨fun _ => hq, fun q => absurd q (by decide)⟩⟩
      · rw [show (fo (fun i z => letS (T i) z) 0 j z) = z from rfl, if_neg z1] at hq
        have w1 : wX6_letters_131 t Q (tx V t j (-1) d) (nI b) z.2 := by
          refine s6_fwrong ?_
          rw [if_pos rfl]
          exact hq _ _ (by omega)
        refine ⟨fun _ => w1, fun q => ⟨fun q2 => absurd ?_ q2, fun _ => w1⟩⟩
        refine b2i_f (fun q3 => z1 ⟨?_, q3⟩)
        have : ¬ j = b := fun q4 => q (by rw [q4])
        omega
    rw [wX6_letters_19, tx_10 hT, tx_a]
    by_cases z1 : j < L
    · refine br_f (nI_ge z1 (by omega)) (s6_letter hT z1 (s6_isIn (p_bz ?_)))
      split
      · next z2 =>
        have := rn_end (p := pLo) (T := T) (L := L) (k := L - b) (a := b) rfl (by show wd T L b < L; omega)
        rw [show rn pLo T (L - b) b = j from he0] at this
        rw [(inI_lo (hT.2.2.1 _ z1)).mp z2] at this
        cases this
      · exact fin
    · exact br_t (nI_le (by omega) (by omega)) fin
  | succ r ih =>
    intro j z hj hbj hq
    have hjL : j < L := by omega
    have h256 := hT.2.2.1 _ hjL
    have hlo : pLo (T j) = true := rn_mem (p := pLo) (T := T) (k := L - b) (a := b) hbj (by show j < wd T L b; omega)
    have hl2 := pLo_iff.mp hlo
    rw [wX6_letters_19, tx_10 hT, tx_a]
    refine br_f (nI_ge hjL (by omega)) (s6_letter hT hjL (s6_isIn ?_))
    rw [b2i_t ((inI_lo h256).mpr hlo)]
    refine br_f (by decide) (s6_letter hT hjL (nm_r (e' := nI (T j - 97)) (by rw [show (97 : Int32) = nI 97 from rfl, pk_sub (by omega)]) ?_))
    have nx : ∀ x2 x3, (x2, x3) = letS (T j) z → wX6_letters_104 t Q (fun V x1 x2 x3 => wX6_letters_19 t Q (r + 1) V x1 x2 x3) (tx V t j (-1) d) (nI b) (b2i (x2 = true)) z.2 (if x2 = true then (1 : Int32) <<< (nI (T j - 97) &&& 31) else 0) := by
      intro x2 x3 e
      have e3 : z.2 ||| (if x2 = true then (1 : Int32) <<< (nI (T j - 97) &&& 31) else 0) = x3 := by
        unfold letS at e
        split at e
        · cases e; rw [if_pos rfl]
        · cases e; rw [if_neg (by decide)]; exact Int32.or_zero
      refine nm_r e3 ?_
      rw [tx_a]
      refine nm_r (nI_1 j) ?_
      rw [txs_a]
      refine ih (j + 1) (x2, x3) (by omega) (by omega) ?_
      rw [e]
      exact hq
    have bad : letS (T j) z = (false, z.2) → wX6_letters_89 t Q (fun V x1 x2 x3 => wX6_letters_19 t Q (r + 1) V x1 x2 x3) (tx V t j (-1) d) (nI b) z.2 (nI (T j - 97)) := by
      intro e
      exact br_t rfl (nx false z.2 e.symm)
    have iff : (letS (T j) z = if z.1 = true ∧ T j < 103 ∧ ¬ isOf z.2 (nI (T j - 97)) then (true, z.2 ||| ((1 : Int32) <<< (nI (T j - 97) &&& 31))) else (false, z.2)) := rfl
    refine ⟨fun z1 => bad ?_, fun z1 => ⟨fun z2 => bad ?_, fun z2 => ?_⟩⟩
    · rw [iff, if_neg (fun q => (b2i_0.mp z1) q.1)]
    · rw [show (6 : Int32) = nI 6 from rfl, nI_leI (by decide) (by omega)] at z2
      rw [iff, if_neg (fun q => by omega)]
    · rw [show (6 : Int32) = nI 6 from rfl, nI_leI (by decide) (by omega)] at z2
      have l5 : ∀ Q9 : Int32 → Prop, Q9 (nI (T j - 97)) → wX6_lesser (nI (T j - 97)) (5 : Int32) Q9 := by
        intro Q9 h9
        refine ⟨fun z3 => ?_, fun _ => h9⟩
        rw [show (5 : Int32) = nI 5 from rfl, nI_leI (by decide) (by omega)] at z3
        rw [show T j - 97 = 5 by omega] at h9
        exact h9
      refine l5 _ (s6_isOf (p_bn ?_))
      have hg : z.1 = true := Classical.byContradiction fun q => z1 (b2i_f q)
      split
      · next z3 => exact bad (by rw [iff, if_neg (fun q => q.2.2 z3)])
      · next z3 =>
        have e := nx true _ (by rw [iff, if_pos ⟨hg, by omega, z3⟩])
        exact br_f (by decide) e
theorem s6_hoursF (hf : ¬ f = -1) (hq : ∀ v, Q v (tx V t a f d)) : wX6_hours t sh R (tx V t a f d) Q := by
  refine s6_afterF hf (s6_afterF hf ⟨2, ?_⟩)
  rw [wX6_hours_25]
  refine br_f (by decide) (nm_e (nm_e ?_))
  rw [wX6_hours_25]
  exact br_t (by decide) (hq _)
theorem setFT : ∀ (u f : Fin 8), f.val ≤ u.val → fo (fun q a => a ||| ((1 : Int32) <<< (nI q &&& 31))) (u.val + 1 - f.val) f.val 0 = nI (2 ^ (u.val + 1) - 2 ^ f.val) := by decide +kernel
theorem s6_hours (hC : ConSh sh) (hT : TxtT V t T L) (ha : a ≤ L) (hq : pO (pHours T L a) (fun b => ∀ v a2, a2 ≤ L → Q v (tx V t a2 (nI b) d)) (fun v e => Q (nI v) (tx V t e (-1) d))) : wX6_hours t sh R (tx V t a (-1) d) Q := by
  have hL := hT.1
  have lp : ∀ (v u : Nat) (f : Int32) (a2 : Nat), v ≤ u → u ≤ 7 → Q (nI (2 ^ (u + 1) - 2 ^ v)) (tx V t a2 f d) → ∃ f9, wX6_hours_25 t sh R Q f9 (tx V t a2 f d) (nI u) (0 : Int32) (nI v) := by
    intro v u f a2 h1 h2 h3
    refine fo_loop (fun n a i => wX6_hours_25 t sh R Q n (tx V t a2 f d) (nI u) a (nI i)) (fun q a => a ||| ((1 : Int32) <<< (nI q &&& 31))) (fun r => Q r (tx V t a2 f d)) (u + 1) ?_ ?_ (u + 1 - v) v 0 (by omega) (by rw [setFT ⟨u, by omega⟩ ⟨v, by omega⟩ h1]; exact h3)
    · intro n a hP
      rw [wX6_hours_25]
      exact br_t (nI_lt (by omega) (by omega)) hP
    · intro n a i hi hk
      rw [wX6_hours_25]
      exact br_f (nI_nlt (by omega) (by omega)) (nm_e (nm_r (nI_1 i) hk))
  have lpF : ∀ (v x : Nat) (f : Int32) (a2 : Nat), v < 10000 → x < 10000 → (∀ y, Q y (tx V t a2 f d)) → ∃ f9, wX6_hours_25 t sh R Q f9 (tx V t a2 f d) (nI x) (0 : Int32) (nI v) := by
    intro v x f a2 h2 h4 h3
    by_cases z : x < v
    · refine ⟨1, ?_⟩
      rw [wX6_hours_25]
      exact br_t (nI_lt z (by omega)) (h3 _)
    · refine fo_loop (fun n a i => wX6_hours_25 t sh R Q n (tx V t a2 f d) (nI x) a (nI i)) (fun q a => a ||| ((1 : Int32) <<< (nI q &&& 31))) (fun r => Q r (tx V t a2 f d)) (x + 1) ?_ ?_ (x + 1 - v) v 0 (by omega) (h3 _)
      · intro n a hP
        rw [wX6_hours_25]
        exact br_t (nI_lt (by omega) (by omega)) hP
      · intro n a i hi hk
        rw [wX6_hours_25]
        exact br_f (nI_nlt (by omega) (by omega)) (nm_e (nm_r (nI_1 i) hk))
  unfold pHours at hq
  refine s6_after (by decide) (fun V R => str_9 hC.g) hT ha ?_
  have k1 : pO (pAfter (tw 9) 0 7 T L a) (fun b => b ≤ L) (fun v e => e ≤ L ∧ v ≤ 7) := by
    have h1 := pAfter_le (w := tw 9) (lo := 0) (hi := 7) (T := T) ha
    generalize pAfter (tw 9) 0 7 T L a = r at h1
    rcases r with b | ⟨v, e⟩
    · exact h1
    · have h2 : a < e ∧ e ≤ L ∧ v < 1000 ∧ inI (nI v) 0 7 := h1
      refine ⟨h2.2.1, ?_⟩
      have := h2.2.2.2.2
      rw [show (7 : Int32) = nI 7 from rfl, nI_ltI (by decide) (by omega)] at this
      omega
  generalize pAfter (tw 9) 0 7 T L a = r1 at hq k1
  rcases r1 with b | ⟨v, e⟩
  · intro v a2 hv ha2
    have hb : b ≤ L := k1
    refine s6_afterF (f_ne (by omega)) ?_
    rw [show (0 : Int32) = nI 0 from rfl]
    exact lpF v 0 _ a2 hv (by decide) (fun y => hq y a2 ha2)
  · have k2 : e ≤ L ∧ v ≤ 7 := k1
    refine s6_after (by decide) (fun V R => str_10 hC.g) hT k2.1 ?_
    have k3 : pO (pAfter (tw 10) (nI v) 7 T L e) (fun b => b ≤ L) (fun u e => e ≤ L ∧ v ≤ u ∧ u ≤ 7) := by
      have h1 := pAfter_le (w := tw 10) (lo := nI v) (hi := 7) (T := T) k2.1
      generalize pAfter (tw 10) (nI v) 7 T L e = r at h1
      rcases r with b | ⟨u, e2⟩
      · exact h1
      · have h2 : e < e2 ∧ e2 ≤ L ∧ u < 1000 ∧ inI (nI u) (nI v) 7 := h1
        refine ⟨h2.2.1, ?_⟩
        have h3 := h2.2.2.2
        unfold inI at h3
        rw [show (7 : Int32) = nI 7 from rfl, nI_ltI (by omega) (by omega), nI_ltI (by decide) (by omega)] at h3
        omega
    have hq2 : pO (pB (pAfter (tw 10) (nI v) 7 T L e) (fun u a2 => (.inr (2 ^ (u + 1) - 2 ^ v, a2) : Pz Nat))) (fun b => ∀ v a2, a2 ≤ L → Q v (tx V t a2 (nI b) d)) (fun v e => Q (nI v) (tx V t e (-1) d)) := hq
    generalize pAfter (tw 10) (nI v) 7 T L e = r2 at hq2 k3
    rcases r2 with b | ⟨u, e2⟩
    · intro x a2 hx ha2
      exact lpF v x _ a2 (by omega) hx (fun y => hq2 y a2 ha2)
    · have k4 : e2 ≤ L ∧ v ≤ u ∧ u ≤ 7 := k3
      exact lp v u _ e2 k4.2.1 k4.2.2 hq2
end TX4
