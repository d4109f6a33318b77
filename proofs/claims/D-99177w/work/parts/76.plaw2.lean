/-! ===== PURE: the twin reads and asks conditions ===== -/
/-- what the law is asked -/
def Fx (V : Nat → Nat → Int32) (t : Nat) : Nat → Int32 := fun j => if j < 7 then V (t + 6) j else if j = 7 then V t 15 else V t 16
section TX6
variable {sh : List jH} {R : Nat → Nat → Option Nat} {V : Nat → Nat → Int32} {t L a d : Nat} {f : Int32} {T : Nat → Nat} {Q : Int32 → (Nat → Nat → Int32) → Prop} {P : (Nat → Nat → Int32) → Prop}
theorem s6_partF (hf : ¬ f = -1) (hq : Q 0 (tx V t a f d)) : wX6_part t sh R (tx V t a f d) Q := by
  unfold wX6_part
  rw [tx_f]
  exact ⟨fun z => absurd z hf, fun _ => hq⟩
theorem s6_part (hC : ConSh sh) (hT : TxtT V t T L) (ha : a ≤ L) (hq : pO (pPart T L a) (fun b => ∀ v a2, a2 ≤ L → Q v (tx V t a2 (nI b) d)) (fun x e => Q (x (Fx V t)) (tx V t e (-1) d))) : wX6_part t sh R (tx V t a (-1) d) Q := by
  have hL := hT.1
  have hs := sk_le (T := T) ha
  unfold wX6_part
  rw [tx_f]
  refine br_t rfl (s6_skip hT (by omega) ?_)
  have words : ¬ (sk T L a < L ∧ pFi (T (sk T L a)) = true) → wX6_part_52 t sh R Q (tx V t (sk T L a) (-1) d) := by
    intro z
    unfold pPart at hq
    rw [if_neg z] at hq
    have yes : ∀ i, i < 7 → pFact T L a = some i → ∀ e, e = wd T L (sk T L a) → wX6_part_145 t sh R Q (tx V t e (-1) d) (nI i) := by
      intro i hi h e he
      rw [h] at hq
      have hq2 : Q (Fx V t i) (tx V t (wd T L (sk T L a)) (-1) d) := hq
      refine ⟨fun _ => ⟨vp_in_nI hi (by decide), ?_⟩, fun z => absurd z (nI_nm1 (by omega))⟩
      rw [nI_clamp (by omega), tx_b (by omega), he]
      rw [show Fx V t i = V (t + 6) i from if_pos hi] at hq2
      exact hq2
    have no : pFact T L a = none → wX6_part_145 t sh R Q (tx V t (sk T L a) (-1) d) (-1) := by
      intro h
      rw [h] at hq
      refine ⟨fun z => absurd rfl z, fun _ => ?_⟩
      rw [tx_a]
      refine s6_fwrong ?_
      rw [if_pos rfl]
      exact hq 0 _ hs
    unfold pFact at yes no
    unfold wX6_part_52
    refine s6_has (w := tw 0) (by decide) (fun V R => str_0 hC.g) hT (by omega) ?_
    rw [isW_sk, afW_sk]
    by_cases z0 : isW (tw 0) T L a = true
    · rw [if_pos z0]
      exact br_f (by decide) (yes 0 (by decide) (by rw [if_pos z0]) _ (afW_yes z0))
    rw [if_neg z0, afW_no z0]
    refine br_t rfl ?_
    refine s6_has (w := tw 1) (by decide) (fun V R => str_1 hC.g) hT (by omega) ?_
    rw [isW_sk, afW_sk]
    by_cases z1 : isW (tw 1) T L a = true
    · rw [if_pos z1]
      exact br_f (by decide) (yes 1 (by decide) (by rw [if_neg z0, if_pos z1]) _ (afW_yes z1))
    rw [if_neg z1, afW_no z1]
    refine br_t rfl ?_
    refine s6_has (w := tw 22) (by decide) (fun V R => str_22 hC.g) hT (by omega) ?_
    rw [isW_sk, afW_sk]
    by_cases z2 : isW (tw 22) T L a = true
    · rw [if_pos z2]
      exact br_f (by decide) (yes 2 (by decide) (by rw [if_neg z0, if_neg z1, if_pos z2]) _ (afW_yes z2))
    rw [if_neg z2, afW_no z2]
    refine br_t rfl ?_
    refine s6_has (w := tw 23) (by decide) (fun V R => str_23 hC.g) hT (by omega) ?_
    rw [isW_sk, afW_sk]
    by_cases z3 : isW (tw 23) T L a = true
    · rw [if_pos z3]
      exact br_f (by decide) (yes 3 (by decide) (by rw [if_neg z0, if_neg z1, if_neg z2, if_pos z3]) _ (afW_yes z3))
    rw [if_neg z3, afW_no z3]
    refine br_t rfl ?_
    refine s6_has (w := tw 24) (by decide) (fun V R => str_24 hC.g) hT (by omega) ?_
    rw [isW_sk, afW_sk]
    by_cases z4 : isW (tw 24) T L a = true
    · rw [if_pos z4]
      exact br_f (by decide) (yes 4 (by decide) (by rw [if_neg z0, if_neg z1, if_neg z2, if_neg z3, if_pos z4]) _ (afW_yes z4))
    rw [if_neg z4, afW_no z4]
    refine br_t rfl ?_
    refine s6_has (w := tw 25) (by decide) (fun V R => str_25 hC.g) hT (by omega) ?_
    rw [isW_sk, afW_sk]
    by_cases z5 : isW (tw 25) T L a = true
    · rw [if_pos z5]
      exact br_f (by decide) (yes 5 (by decide) (by rw [if_neg z0, if_neg z1, if_neg z2, if_neg z3, if_neg z4, if_pos z5]) _ (afW_yes z5))
    rw [if_neg z5, afW_no z5]
    refine br_t rfl ?_
    refine s6_has (w := tw 5) (by decide) (fun V R => str_5 hC.g) hT (by omega) ?_
    rw [isW_sk, afW_sk]
    by_cases z6 : isW (tw 5) T L a = true
    · rw [if_pos z6]
      exact br_f (by decide) (yes 6 (by decide) (by rw [if_neg z0, if_neg z1, if_neg z2, if_neg z3, if_neg z4, if_neg z5, if_pos z6]) _ (afW_yes z6))
    rw [if_neg z6, afW_no z6]
    refine br_t rfl ?_
    exact no (by rw [if_neg z0, if_neg z1, if_neg z2, if_neg z3, if_neg z4, if_neg z5, if_neg z6])
  rw [tx_10 hT, tx_a]
  by_cases z : sk T L a < L
  · refine br_f (nI_ge z (by omega)) (s6_letter hT z (s6_isIn (p_bz ?_)))
    split
    · next z2 =>
      have z3 := (inI_fi (hT.2.2.1 _ z)).mp z2
      have hq2 := hq
      unfold pPart at hq2
      rw [if_pos ⟨z, z3⟩] at hq2
      refine s6_figures hT hs ?_
      rw [show pNum 0 999 T L (sk T L a) = pNum 0 999 T L a by unfold pNum; rw [sk_sk]]
      exact pO_mono (pO_B hq2) (fun b h v a2 _ h2 => h _ _ h2) (fun v e h => h)
    · next z2 => exact words (fun q => z2 ((inI_fi (hT.2.2.1 _ z)).mpr q.2))
  · exact br_t (nI_le (by omega) (by omega)) (words (fun q => z q.1))
theorem s6_sum (hC : ConSh sh) (hT : TxtT V t T L) (ha : a ≤ L) (hq : pO (pSum T L a) (fun b => ∀ v a2, a2 ≤ L → Q v (tx V t a2 (nI b) d)) (fun x e => Q (x (Fx V t)) (tx V t e (-1) d))) : wX6_sum t sh R (tx V t a (-1) d) Q := by
  have hL := hT.1
  unfold wX6_sum
  refine s6_part hC hT ha ?_
  have hbad : ∀ (x : Int32) (b a2 : Nat), b ≤ L → Q x (tx V t a2 (nI b) d) → ∃ f9, wX6_sum_5 t sh R Q f9 (tx V t a2 (nI b) d) x := fun x b a2 hb h => ⟨1, by
    rw [wX6_sum_5, tx_f]
    exact ⟨fun _ => h, fun z => absurd z (f_ne (by omega))⟩⟩
  have lp : ∀ k x a, a ≤ L → L ≤ a + k → pO (pSumL T L k x a) (fun b => ∀ v a2, a2 ≤ L → Q v (tx V t a2 (nI b) d)) (fun x e => Q (x (Fx V t)) (tx V t e (-1) d)) → wX6_sum_5 t sh R Q (k + 2) (tx V t a (-1) d) (x (Fx V t)) := by
    intro k
    induction k with
    | zero =>
      intro x a ha hk hq
      rw [wX6_sum_5, tx_f]
      refine ⟨fun z => absurd rfl z, fun _ => s6_isSign (by decide) hT (by omega) ?_⟩
      rw [if_neg (fun z => by have := (isS_iff.mp z).1; have := sk_ge (T := T) (L := L) (a := a); omega)]
      exact br_t rfl hq
    | succ k ih =>
      intro x a ha hk hq
      rw [wX6_sum_5, tx_f]
      refine ⟨fun z => absurd rfl z, fun _ => s6_isSign (by decide) hT (by omega) ?_⟩
      unfold pSumL at hq
      split
      · next z =>
        have h1 := (isS_iff.mp z).1
        have h2 := sk_ge (T := T) (L := L) (a := a)
        rw [if_pos z] at hq
        refine br_f (by decide) ?_
        rw [tx_a]
        refine nm_r (nI_1 _) ?_
        rw [txs_a]
        refine s6_part hC hT (by omega) (pO_mono (pO_and (pO_B hq) (pPart_fw (by omega))) (fun b h v a2 h3 => nm_e ?_) (fun y e h => nm_e ?_))
        · rw [wX6_sum_5, tx_f]
          exact ⟨fun _ => h.1 _ _ h3, fun z => absurd z (f_ne (by have := h.2; omega))⟩
        · exact ih (fun F => x F + y F) e h.2.2 (by omega) h.1
      · next z =>
        rw [if_neg z] at hq
        exact br_t rfl hq
  exact pO_mono (pO_and (pO_B hq) (pPart_fw ha)) (fun b h v a2 h3 => hbad v b a2 h.2 (h.1 v a2 h3)) (fun x e h => ⟨_, lp L x e h.2.2 (by omega) h.1⟩)
theorem jz_eq {x : Int32} (h : jz x) : b2i (decide (¬ x = 0) = true) = x := by
  rcases h with rfl | rfl <;> decide
theorem s6_plain (hC : ConSh sh) (hT : TxtT V t T L) (h15 : jz (V t 15)) (h16 : jz (V t 16)) (ha : a ≤ L) (hq : pO (pPlain T L a) (fun b => ∀ v a2, jz v → a2 ≤ L → Q v (tx V t a2 (nI b) d)) (fun c e => Q (b2i (c (Fx V t) = true)) (tx V t e (-1) d))) : wX6_plain t sh R (tx V t a (-1) d) Q := by
  have hL := hT.1
  have hs := sk_le (T := T) ha
  unfold pPlain at hq
  unfold wX6_plain
  refine s6_has (w := tw 15) (by decide) (fun V R => str_15 hC.g) hT (by omega) ?_
  by_cases z0 : isW (tw 15) T L a = true
  · rw [if_pos z0] at hq ⊢
    refine br_f (by decide) ?_
    rw [tx_o (Or.inr (by decide))]
    have hq2 : Q (b2i (decide (¬ V t 15 = 0) = true)) (tx V t (afW (tw 15) T L a) (-1) d) := hq
    rw [jz_eq h15] at hq2
    exact ⟨h15, hq2⟩
  rw [if_neg z0] at hq ⊢
  refine br_t rfl (s6_has (w := tw 16) (by decide) (fun V R => str_16 hC.g) hT (by have := afW_le (w := tw 15) (T := T) ha; omega) ?_)
  rw [afW_no z0, isW_sk, afW_sk]
  by_cases z1 : isW (tw 16) T L a = true
  · rw [if_pos z1] at hq ⊢
    refine br_f (by decide) ?_
    rw [tx_o (Or.inr (by decide))]
    have hq2 : Q (b2i (decide (¬ V t 16 = 0) = true)) (tx V t (afW (tw 16) T L a) (-1) d) := hq
    rw [jz_eq h16] at hq2
    exact ⟨h16, hq2⟩
  rw [if_neg z1] at hq ⊢
  refine br_t rfl ?_
  rw [afW_no z1]
  refine s6_sum hC hT hs ?_
  rw [show pSum T L (sk T L a) = pSum T L a by unfold pSum pPart pNum pFact; simp only [sk_sk, isW_sk]]
  refine pO_mono (pO_and (pO_B hq) (pSum_fw ha)) (fun b h v a2 h3 => ?_) (fun x e h => ?_)
  · rw [tx_f]
    have hb := h.2
    exact ⟨fun z => absurd z (f_ne (by omega)), fun _ => h.1 0 a2 (Or.inl rfl) h3⟩
  have hse := sk_le (T := T) h.2.2
  have tl : ∀ (r : Int32) (op : Int32 → Int32 → Prop) [DecidableRel op], (r = 0 ∧ (∀ x y, op x y ↔ y < x) ∨ ¬ r = 0 ∧ (∀ x y, op x y ↔ x < y)) → sk T L e < L → pO (pB (pSum T L (sk T L e + 1)) (fun y a2 => (.inr (fun F => decide (op (x F) (y F)), a2) : Pz Cd))) (fun b => ∀ v a2, jz v → a2 ≤ L → Q v (tx V t a2 (nI b) d)) (fun c e => Q (b2i (c (Fx V t) = true)) (tx V t e (-1) d)) → wX6_plain_73 t sh R Q (tx V t (sk T L e) (-1) d) (x (Fx V t)) r := by
    intro r op _ hr hlt hq
    unfold wX6_plain_73
    rw [tx_a]
    refine nm_r (nI_1 _) ?_
    rw [txs_a]
    refine s6_sum hC hT (by omega) (pO_mono (pO_B hq) (fun b h v a2 h3 => ?_) (fun y e2 h => ?_))
    · refine ⟨fun _ => ⟨fun _ => h 0 a2 (Or.inl rfl) h3, fun _ => h 1 a2 (Or.inr rfl) h3⟩, fun _ => ⟨fun _ => h 0 a2 (Or.inl rfl) h3, fun _ => h 1 a2 (Or.inr rfl) h3⟩⟩
    · have h9 : Q (b2i (decide (op (x (Fx V t)) (y (Fx V t))) = true)) (tx V t e2 (-1) d) := h
      rcases hr with ⟨rfl, hr⟩ | ⟨hr0, hr⟩
      · refine br_t rfl ⟨fun z => ?_, fun z => ?_⟩
        · rw [b2i_f (fun q => absurd ((hr _ _).mp (of_decide_eq_true q)) (Int32.not_lt.mpr z))] at h9; exact h9
        · rw [b2i_t (decide_eq_true ((hr _ _).mpr (Int32.not_le.mp z)))] at h9; exact h9
      · refine br_f hr0 ⟨fun z => ?_, fun z => ?_⟩
        · rw [b2i_f (fun q => absurd ((hr _ _).mp (of_decide_eq_true q)) (Int32.not_lt.mpr z))] at h9; exact h9
        · rw [b2i_t (decide_eq_true ((hr _ _).mpr (Int32.not_le.mp z)))] at h9; exact h9
  rw [tx_f]
  refine br_t rfl (s6_isSign (by decide) hT (by have := h.2.2; omega) ?_)
  have hq := h.1
  split
  · next z =>
    rw [if_pos z] at hq
    exact ⟨fun _ => tl 1 (fun x y => x < y) (Or.inr ⟨by decide, fun _ _ => Iff.rfl⟩) (isS_iff.mp z).1 hq, fun z => absurd z (by decide)⟩
  · next z =>
    rw [if_neg z] at hq
    refine ⟨fun z => absurd rfl z, fun _ => s6_isSign (by decide) hT (by omega) ?_⟩
    rw [isS_sk, sk_sk]
    split
    · next z2 =>
      rw [if_pos z2] at hq
      exact ⟨fun _ => tl 0 (fun x y => y < x) (Or.inl ⟨rfl, fun _ _ => Iff.rfl⟩) (isS_iff.mp z2).1 hq, fun z => absurd z (by decide)⟩
    · next z2 =>
      rw [if_neg z2] at hq
      refine ⟨fun z => absurd rfl z, fun _ => ?_⟩
      rw [tx_a]
      refine s6_fwrong ?_
      rw [if_pos rfl]
      exact hq 0 _ (Or.inl rfl) hse
end TX6
