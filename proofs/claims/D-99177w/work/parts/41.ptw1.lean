/-! ===== PURE: the twin's plain methods, over its row V (t + 1) ===== -/
section TW1
variable {t : Nat} {V : Nat → Nat → Int32} {Q : Int32 → Prop}
theorem s6_isIn {a lo hi : Int32} (h : Q (b2i (inI a lo hi))) : wX6_isIn a lo hi Q := by
  unfold wX6_isIn
  refine p_ite ?_
  split
  · next z => rw [b2i_f (fun q => q.1 z)] at h; exact h
  · next z =>
    refine p_ite ?_
    split
    · next z2 => rw [b2i_f (fun q => q.2 z2)] at h; exact h
    · next z2 => rw [b2i_t ⟨z, z2⟩] at h; exact h
theorem s6_isQuarter {q : Int32} (h : Q (b2i (isQuarterP q))) : wX6_isQuarter q Q := s6_isIn (Q := fun r => jz r ∧ Q r) ⟨jz_b, h⟩
theorem s6_isHost {a : Int32} (h : Q (b2i (isHostP (V (t + 1)) a))) : wX6_isHost t V a Q := s6_isIn (Q := fun r => jz r ∧ Q r) ⟨jz_b, h⟩
theorem s6_isGuest {a : Int32} (h : Q (b2i (isGuestP (V (t + 1)) a))) : wX6_isGuest t V a Q := s6_isIn (Q := fun r => jz r ∧ Q r) ⟨jz_b, h⟩
theorem s6_isOf {a k : Int32} (h : Q (b2i (isOf a k))) : wX6_isOf a k Q := p_itn (b2i_if h)
theorem s6_of {h w : Nat} (hh : h < 8) (hw : w < 4) (hq : Q (V (t + 1) (11 + 4 * h + w))) : wX6_of t V (nI h) (nI w) Q := p_at (p_ix3 11 4 h w) (by omega) (by decide) hq
theorem s6_ofGuest {g w : Nat} (hh : g < 8) (hw : w < 3) (hq : Q (V (t + 1) (43 + 3 * g + w))) : wX6_ofGuest t V (nI g) (nI w) Q := p_at (p_ix3 43 3 g w) (by omega) (by decide) hq
theorem s6_rankOf {h g : Nat} (hh : h < 8) (hg : g < 8) (hq : Q (V (t + 1) (67 + 8 * h + g))) : wX6_rankOf t V (nI h) (nI g) Q := p_at (p_ix3 67 8 h g) (by omega) (by decide) hq
theorem s6_lovedOf {h g : Nat} (hh : h < 8) (hg : g < 8) (hq : Q (V (t + 1) (131 + 8 * g + h))) : wX6_lovedOf t V (nI h) (nI g) Q := p_at (p_ix3 131 8 g h) (by omega) (by decide) hq
theorem s6_bookedIn {h q : Nat} (hh : h < 8) (hg : q < 8) (hq : Q (V (t + 1) (195 + 8 * h + q))) : wX6_bookedIn t V (nI h) (nI q) Q := p_at (p_ix3 195 8 h q) (by omega) (by decide) hq
theorem s6_mayMeet {h g : Nat} (hh : h < 8) (hg : g < 8) (hq : Q (b2i (f_may (V (t + 1)) h g))) : wX6_mayMeet t V (nI h) (nI g) Q := by
  refine s6_rankOf hh hg (p_ite ?_)
  split
  · next z => rw [b2i_f (fun q => q.1 z)] at hq; exact hq
  · next z =>
    refine s6_lovedOf hh hg (p_ite ?_)
    split
    · next z2 => rw [b2i_f (fun q => q.2 z2)] at hq; exact hq
    · next z2 => rw [b2i_t ⟨z, z2⟩] at hq; exact hq
theorem s6_canMeet {h g : Nat} {q : Int32} (hh : h < 8) (hg : g < 8) (hq : Q (b2i (f_can (V (t + 1)) h g q))) : wX6_canMeet t V (nI h) (nI g) q Q := by
  refine s6_of (w := 1) hh (by decide) (s6_ofGuest (w := 1) hg (by decide) (s6_isOf (p_bz ?_)))
  rw [show 11 + 4 * h + 1 = 12 + 4 * h by omega, show 43 + 3 * g + 1 = 44 + 3 * g by omega]
  split
  · next z =>
    refine s6_mayMeet hh hg (p_bz ?_)
    split
    · next z2 => rw [b2i_t ⟨z, z2⟩] at hq; exact hq
    · next z2 => rw [b2i_f (fun q => z2 q.2)] at hq; exact hq
  · next z => rw [b2i_f (fun q => z q.1)] at hq; exact hq
theorem s6_passes {marks : Int32} (hq : Q (b2i (f_marked (V (t + 1)) marks))) : wX6_passes t V marks Q := by
  unfold wX6_passes
  refine p_itn ?_
  split
  · next z =>
    refine p_itn ?_
    split
    · next z2 => rw [b2i_t ⟨z, z2⟩] at hq; exact hq
    · next z2 => rw [b2i_f (fun q => z2 q.2)] at hq; exact hq
  · next z => rw [b2i_f (fun q => z q.1)] at hq; exact hq
theorem s6_seesOf {h : Nat} (hh : h < 8) (hq : Q (f_sees (V (t + 1)) h)) : wX6_seesOf t V (nI h) Q := by
  refine fo_loop (fun n a i => wX6_seesOf_4 t V (nI h) Q n a (nI i)) _ Q 8 ?_ ?_ 8 0 0 rfl hq
  · intro n a hP
    rw [wX6_seesOf_4]
    exact br_t (by decide) hP
  · intro n a i hi hk
    rw [wX6_seesOf_4]
    refine br_f (nI_ge hi (by decide)) (s6_bookedIn hh hi (p_itn ?_))
    split
    · next z =>
      rw [if_pos z] at hk
      exact nm_e (nm_r (nI_1 i) hk)
    · next z =>
      rw [if_neg z] at hk
      exact s6_bookedIn hh hi (nm_e (nm_r (nI_1 i) hk))
end TW1
section TW1b
variable {t : Nat} {V : Nat → Nat → Int32} {Q : Int32 → Prop}
theorem s6_freeOf {h : Nat} (hh : h < 8) (hq : Q (f_free (V (t + 1)) h)) : wX6_freeOf t V (nI h) Q := by
  unfold wX6_freeOf
  refine s6_of (w := 1) hh (by decide) ?_
  rw [show 11 + 4 * h + 1 = 12 + 4 * h by omega]
  refine fo_loop (fun n a i => wX6_freeOf_9 t V (nI h) Q n a (nI i)) _ Q 8 ?_ ?_ 8 0 _ rfl hq
  · intro n a hP
    rw [wX6_freeOf_9]
    exact br_t (by decide) hP
  · intro n a i hi hk
    rw [wX6_freeOf_9]
    refine br_f (nI_ge hi (by decide)) (s6_bookedIn hh hi (p_itn ?_))
    split
    · next z =>
      rw [if_pos z] at hk
      exact nm_r (Int32.and_self) (nm_r (nI_1 i) hk)
    · next z =>
      rw [if_neg z] at hk
      exact nm_e (nm_r (nI_1 i) hk)
theorem s6_busyOf {g : Int32} (hR : RowOk (V (t + 1))) (hq : Q (f_busy (V (t + 1)) g)) : wX6_busyOf t V g Q := by
  have hH := hR.H; have h8 := hR.H8
  refine fo_loop (fun n a i => wX6_busyOf_4 t V g Q n a (nI i)) _ Q (nH (V (t + 1))) ?_ ?_ (nH (V (t + 1))) 0 0 (Nat.zero_add _) hq
  · intro n a hP
    rw [wX6_busyOf_4]
    exact br_t (by rw [hH]; exact Int32.le_refl _) hP
  · intro n a h hi hk
    rw [wX6_busyOf_4]
    refine br_f (by rw [hH]; exact nI_ge hi (by omega)) ?_
    refine fo_loop (fun n2 a q => wX6_busyOf_17 t V g Q (fun x2 x3 => wX6_busyOf_4 t V g Q n x2 x3) n2 a (nI h) (nI q)) _ (fun a => wX6_busyOf_4 t V g Q n a (nI (h + 1))) 8 ?_ ?_ 8 0 a rfl hk
    · intro n2 a hP
      rw [wX6_busyOf_17]
      exact br_t (by decide) (nm_r (nI_1 h) hP)
    · intro n2 a q hq2 hk
      rw [wX6_busyOf_17]
      refine br_f (nI_ge hq2 (by decide)) (s6_bookedIn (by omega) hq2 (p_itn ?_))
      split
      · next z =>
        rw [if_pos z] at hk
        exact nm_e (nm_r (nI_1 q) hk)
      · next z =>
        rw [if_neg z] at hk
        exact nm_e (nm_r (nI_1 q) hk)
theorem s6_likedOf {g : Nat} (hg : g < 8) (hR : RowOk (V (t + 1))) (hq : Q (f_liked (V (t + 1)) g)) : wX6_likedOf t V (nI g) Q := by
  have hH := hR.H; have h8 := hR.H8
  refine fo_loop (fun n a i => wX6_likedOf_4 t V (nI g) Q n a (nI i)) _ Q (nH (V (t + 1))) ?_ ?_ (nH (V (t + 1))) 0 0 (Nat.zero_add _) hq
  · intro n a hP
    rw [wX6_likedOf_4]
    exact br_t (by rw [hH]; exact Int32.le_refl _) hP
  · intro n a h hi hk
    rw [wX6_likedOf_4]
    exact br_f (by rw [hH]; exact nI_ge hi (by omega)) (s6_rankOf (by omega) hg (nm_e (nm_r (nI_1 h) hk)))
theorem s6_gladness (hR : RowOk (V (t + 1))) (hq : Q (f_gladness (V (t + 1)))) : wX6_gladness t V Q := by
  have hH := hR.H; have h8 := hR.H8
  refine fo_loop (fun n a i => wX6_gladness_4 t V Q n a (nI i)) _ Q (nH (V (t + 1))) ?_ ?_ (nH (V (t + 1))) 0 0 (Nat.zero_add _) hq
  · intro n a hP
    rw [wX6_gladness_4]
    exact br_t (by rw [hH]; exact Int32.le_refl _) hP
  · intro n a h hi hk
    rw [wX6_gladness_4]
    refine br_f (by rw [hH]; exact nI_ge hi (by omega)) (s6_of (w := 2) (by omega) (by decide) ?_)
    rw [show 11 + 4 * h + 2 = 13 + 4 * h by omega]
    exact nm_e (nm_r (nI_1 h) hk)
theorem s6_bookings (hR : RowOk (V (t + 1))) (hq : Q (f_bookings (V (t + 1)))) : wX6_bookings t V Q := by
  have hH := hR.H; have h8 := hR.H8
  refine fo_loop (fun n a i => wX6_bookings_4 t V Q n a (nI i)) _ Q (nH (V (t + 1))) ?_ ?_ (nH (V (t + 1))) 0 0 (Nat.zero_add _) hq
  · intro n a hP
    rw [wX6_bookings_4]
    exact br_t (by rw [hH]; exact Int32.le_refl _) hP
  · intro n a h hi hk
    rw [wX6_bookings_4]
    refine br_f (by rw [hH]; exact nI_ge hi (by omega)) ?_
    refine fo_loop (fun n2 a q => wX6_bookings_16 t V Q (fun x1 x2 => wX6_bookings_4 t V Q n x1 x2) n2 a (nI h) (nI q)) _ (fun a => wX6_bookings_4 t V Q n a (nI (h + 1))) 8 ?_ ?_ 8 0 a rfl hk
    · intro n2 a hP
      rw [wX6_bookings_16]
      exact br_t (by decide) (nm_r (nI_1 h) hP)
    · intro n2 a q hq2 hk
      rw [wX6_bookings_16]
      refine br_f (nI_ge hq2 (by decide)) (s6_bookedIn (by omega) hq2 (p_itn ?_))
      split
      · next z =>
        rw [if_pos z] at hk
        exact nm_e (nm_r (nI_1 q) hk)
      · next z =>
        rw [if_neg z] at hk
        exact nm_e (nm_r (nI_1 q) hk)
end TW1b
