/-! ===== PURE: rests rank booked can host guest alike log led ===== -/
section P4
variable {x t : Nat} {V : Nat → Nat → Int32} {m : Nat → Int32} {Q : Int32 → Prop} {Q2 : Int32 → (Nat → Nat → Int32) → Prop} {P : Prop} {X : String → Prop}
theorem rests1_step {A B : Int32} {K : Int32 → Int32 → Prop} {n h g a b : Nat} {s : Int32} (hW : WRel V (x + 1) m) (hR : RowOk m) (hh : h < nH m) (hg : g < nG m) (ha : a < 2) (hb : b < 2) (hk : wX1_rests_24 x V (nI h) (nI g) Q X K n (f_rest m h g a b s) (nI a) (nI (b + 1))) : wX1_rests_24 x V (nI h) (nI g) Q X K (n + 1) s (nI a) (nI b) := by
  rw [wX1_rests_24]
  have e1 : (1 : Int32) - nI a = nI (1 - a) := pk_sub (a := 1) (by omega)
  have e2 : (1 : Int32) - nI b = nI (1 - b) := pk_sub (a := 1) (by omega)
  have e3 : (2 : Int32) * nI a + nI b = nI (2 * a + b) := by rw [show (2 : Int32) = nI 2 from rfl, pk_mul, nI_add]
  rw [e1, e2, e3]
  unfold f_rest at hk
  refine br_f (nI_ge (b := 2) hb (by decide)) (s1_gateHas ha hb (s1_gateHas (by omega) hb (br_c (fun z1 => ?_) fun z1 => ?_)))
  · rw [if_pos z1] at hk; exact nm_r (nI_1 b) hk
  · rw [if_neg z1] at hk
    refine s1_guestHas hW hR hh hg ha hb (s1_guestHas hW hR hh hg ha (by omega) (br_c (fun z2 => ?_) fun z2 => ?_))
    · rw [if_pos z2] at hk; exact nm_r (nI_1 b) hk
    · rw [if_neg z2] at hk; exact nm_e (nm_r (nI_1 b) hk)
theorem s1_rests {a b : Int32} (hW : WRel V (x + 1) m) (hR : RowOk m) (hq : oC (o_rests m a b) Q X) : wX1_rests x V a b Q X := by
  unfold o_rests at hq
  refine e1_hostGuest hW ?_
  split
  · next c =>
    rw [if_pos c] at hq
    obtain ⟨ha, hb⟩ := c
    obtain ⟨i, hi, hi8, rfl⟩ := hR.host ha
    obtain ⟨j, hj, hj8, rfl⟩ := hR.guest hb
    rw [cl8 hi8, cl8 hj8] at hq
    refine ⟨3, ?_⟩
    rw [wX1_rests_15]
    refine br_f (by decide) ⟨3, ?_⟩
    refine rests1_step (A := 0) (B := 0) (a := 0) (b := 0) hW hR hi hj (by decide) (by decide) (rests1_step (A := 0) (B := 0) (a := 0) (b := 1) hW hR hi hj (by decide) (by decide) ?_)
    rw [wX1_rests_24]
    refine br_t (by decide) (nm_e ?_)
    show wX1_rests_15 _ _ _ _ _ _ 2 _ _
    rw [wX1_rests_15]
    refine br_f (by decide) ⟨3, ?_⟩
    refine rests1_step (A := 0) (B := 0) (a := 1) (b := 0) hW hR hi hj (by decide) (by decide) (rests1_step (A := 0) (B := 0) (a := 1) (b := 1) hW hR hi hj (by decide) (by decide) ?_)
    rw [wX1_rests_24]
    refine br_t (by decide) (nm_e ?_)
    show wX1_rests_15 _ _ _ _ _ _ 1 _ _
    rw [wX1_rests_15]
    exact br_t (by decide) hq
  · next c => rw [if_neg c] at hq; exact hq
theorem rests6_step {n h g k : Nat} {s : Int32} (hR : RowOk (V (t + 1))) (hh : h < 8) (hg : g < 8) (hk4 : k < 4) (hk : wX6_rests_39 t (nI h) (nI g) Q2 n V (f_rest (V (t + 1)) h g (k / 2) (k % 2) s) (nI (k + 1))) : wX6_rests_39 t (nI h) (nI g) Q2 (n + 1) V s (nI k) := by
  rw [wX6_rests_39]
  have ed : nI k / (2 : Int32) = nI (k / 2) := pk_div (d := 2) (by omega) (by decide) (by decide)
  have er : nI k - nI k / (2 : Int32) * (2 : Int32) = nI (k % 2) := pk_rem (d := 2) (by omega) (by decide) (by decide)
  have e1 : (1 : Int32) - nI (k / 2) = nI (1 - k / 2) := pk_sub (a := 1) (by omega)
  have e2 : (1 : Int32) - nI (k % 2) = nI (1 - k % 2) := pk_sub (a := 1) (by omega)
  unfold f_rest at hk
  rw [show 2 * (k / 2) + k % 2 = k by omega] at hk
  refine br_f (nI_ge (b := 4) hk4 (by decide)) (nm_r ed (nm_r er ?_))
  rw [e1, e2]
  refine s6_gateHas (by omega) (by omega) (s6_gateHas (by omega) (by omega) (br_c (fun z1 => ?_) fun z1 => ?_))
  · rw [if_pos z1] at hk; exact nm_r (nI_1 k) hk
  · rw [if_neg z1] at hk
    refine s6_comerHas hR hh hg (by omega) (by omega) (s6_comerHas hR hh hg (by omega) (by omega) (br_c (fun z2 => ?_) fun z2 => ?_))
    · rw [if_pos z2] at hk; exact nm_r (nI_1 k) hk
    · rw [if_neg z2] at hk; exact nm_e (nm_r (nI_1 k) hk)
theorem s6_rests {a b : Int32} (hR : RowOk (V (t + 1))) (hq : oT (o_rests (V (t + 1)) a b) t V Q2) : wX6_rests t V a b Q2 := by
  unfold o_rests at hq
  have bad : ¬ (isHostP (V (t + 1)) a ∧ isGuestP (V (t + 1)) b) → wX6_rests_17 t a b Q2 V := by
    intro c
    rw [if_neg c] at hq
    exact t_thr (by rw [if_neg (by decide)]; exact hq _)
  refine s6_isHost (p_bz ?_)
  split
  · next c1 =>
    refine s6_isGuest (p_bn ?_)
    split
    · next c2 =>
      rw [if_pos ⟨c1, c2⟩] at hq
      refine t_thr ?_
      rw [if_pos (by decide)]
      have e1 : vset V t 0 0 (t + 1) = V (t + 1) := vt1
      change Q2 _ _ at hq
      rw [← e1] at hq hR c1 c2
      generalize vset V t 0 0 = V1 at *
      obtain ⟨i, hi, hi8, rfl⟩ := hR.host c1
      obtain ⟨j, hj, hj8, rfl⟩ := hR.guest c2
      rw [cl8 hi8, cl8 hj8] at hq
      refine ⟨5, rests6_step (k := 0) hR hi8 hj8 (by decide) (rests6_step (k := 1) hR hi8 hj8 (by decide) (rests6_step (k := 2) hR hi8 hj8 (by decide) (rests6_step (k := 3) hR hi8 hj8 (by decide) ?_)))⟩
      rw [wX6_rests_39]
      exact br_t (by decide) hq
    · next c2 => exact bad (fun z => c2 z.2)
  · next c1 => exact bad (fun z => c1 z.1)
/-! ===== rank booked can ===== -/
def o_rank (m : Nat → Int32) (a b c : Int32) : Ot := if isHostP m a ∧ isGuestP m b then .inl (if c = 0 then m (131 + 8 * b.toNatClampNeg + a.toNatClampNeg) else m (67 + 8 * a.toNatClampNeg + b.toNatClampNeg)) else .inr (xIo, 1)
theorem s1_rank {a b c : Int32} (hW : WRel V (x + 1) m) (hR : RowOk m) (hq : oC (o_rank m a b c) Q X) : wX1_rank x V a b c Q X := by
  unfold o_rank at hq
  refine e1_hostGuest hW ?_
  split
  · next d =>
    rw [if_pos d] at hq
    obtain ⟨ha, hb⟩ := d
    obtain ⟨i, hi, hi8, rfl⟩ := hR.host ha
    obtain ⟨j, hj, hj8, rfl⟩ := hR.guest hb
    rw [cl8 hi8, cl8 hj8] at *
    refine br_c (fun z => ?_) (fun z => ?_)
    · rw [if_pos z] at hq; exact ⟨in8 hj8, in8 hi8, by rw [hW.love hi hj]; exact hq⟩
    · rw [if_neg z] at hq; exact ⟨in8 hi8, in8 hj8, by rw [hW.like hi hj]; exact hq⟩
  · next d => rw [if_neg d] at hq; exact hq
theorem s6_rank {a b c : Int32} (hR : RowOk (V (t + 1))) (hq : oT (o_rank (V (t + 1)) a b c) t V Q2) : wX6_rank t V a b c Q2 := by
  unfold o_rank at hq
  have bad : ¬ (isHostP (V (t + 1)) a ∧ isGuestP (V (t + 1)) b) → wX6_rank_17 t a b c Q2 V := by
    intro c
    rw [if_neg c] at hq
    exact t_thr (by rw [if_neg (by decide)]; exact hq _)
  refine s6_isHost (p_bz ?_)
  split
  · next c1 =>
    refine s6_isGuest (p_bn ?_)
    split
    · next c2 =>
      rw [if_pos ⟨c1, c2⟩] at hq
      refine t_thr ?_
      rw [if_pos (by decide)]
      have e1 : vset V t 0 0 (t + 1) = V (t + 1) := vt1
      change Q2 _ _ at hq
      rw [← e1] at hq hR c1 c2
      generalize vset V t 0 0 = V1 at *
      obtain ⟨i, hi, hi8, rfl⟩ := hR.host c1
      obtain ⟨j, hj, hj8, rfl⟩ := hR.guest c2
      rw [cl8 hi8, cl8 hj8] at hq
      refine br_c (fun z => ?_) (fun z => ?_)
      · rw [if_pos z] at hq; exact s6_lovedOf hi8 hj8 hq
      · rw [if_neg z] at hq; exact s6_rankOf hi8 hj8 hq
    · next c2 => exact bad (fun z => c2 z.2)
  · next c1 => exact bad (fun z => c1 z.1)
def o_booked (m : Nat → Int32) (a b : Int32) : Ot := if isHostP m a ∧ isQuarterP b then .inl (m (195 + 8 * a.toNatClampNeg + b.toNatClampNeg)) else .inr (xIo, 1)
theorem s1_booked {a b : Int32} (hW : WRel V (x + 1) m) (hR : RowOk m) (hq : oC (o_booked m a b) Q X) : wX1_booked x V a b Q X := by
  unfold o_booked at hq
  refine e1_hostAt hW ?_
  split
  · next c =>
    refine e1_quarterAt ?_
    split
    · next d =>
      rw [if_pos ⟨c, d⟩] at hq
      obtain ⟨i, hi, hi8, rfl⟩ := hR.host c
      obtain ⟨j, hj8, rfl⟩ := quarter_nat d
      rw [cl8 hi8, cl8 hj8] at *
      exact ⟨in8 hi8, in8 hj8, by rw [hW.book hi hj8]; exact hq⟩
    · next d => rw [if_neg (fun z => d z.2)] at hq; exact hq
  · next c => rw [if_neg (fun z => c z.1)] at hq; exact hq
theorem s6_booked {a b : Int32} (hR : RowOk (V (t + 1))) (hq : oT (o_booked (V (t + 1)) a b) t V Q2) : wX6_booked t V a b Q2 := by
  unfold o_booked at hq
  have bad : ¬ (isHostP (V (t + 1)) a ∧ isQuarterP b) → wX6_booked_16 t a b Q2 V := by
    intro c
    rw [if_neg c] at hq
    exact t_thr (by rw [if_neg (by decide)]; exact hq _)
  refine s6_isHost (p_bz ?_)
  split
  · next c1 =>
    refine s6_isQuarter (p_bn ?_)
    split
    · next c2 =>
      rw [if_pos ⟨c1, c2⟩] at hq
      refine t_thr ?_
      rw [if_pos (by decide)]
      have e1 : vset V t 0 0 (t + 1) = V (t + 1) := vt1
      change Q2 _ _ at hq
      rw [← e1] at hq hR c1
      generalize vset V t 0 0 = V1 at *
      obtain ⟨i, hi, hi8, rfl⟩ := hR.host c1
      obtain ⟨j, hj8, rfl⟩ := quarter_nat c2
      rw [cl8 hi8, cl8 hj8] at hq
      exact s6_bookedIn hi8 hj8 hq
    · next c2 => exact bad (fun z => c2 z.2)
  · next c1 => exact bad (fun z => c1 z.1)
end P4
