/-! ===== PURE: the component's world over a row ===== -/
/-- the world at w is as the row m says (the law apart) -/
def WRel (V : Nat → Nat → Int32) (w : Nat) (m : Nat → Int32) : Prop :=
  (V w 0 = m 0 ∧ V w 1 = m 3 ∧ V w 2 = m 4 ∧ V w 3 = m 5 ∧ V w 4 = m 7 ∧ V w 5 = m 8 ∧ V w 6 = m 6 ∧ V w 7 = m 9 ∧ V w 8 = m 10) ∧
  (∀ h, h < nH m → V (w + 1) h = m (11 + 4 * h) ∧ V (w + 2) h = m (12 + 4 * h) ∧ V (w + 3) h = m (13 + 4 * h) ∧ V (w + 4) h = m (14 + 4 * h)) ∧
  (∀ g, g < nG m → V (w + 5) g = m (43 + 3 * g) ∧ V (w + 6) g = m (44 + 3 * g) ∧ V (w + 7) g = m (45 + 3 * g)) ∧
  (∀ h g, h < nH m → g < nG m → V (w + 8 + 1 + h) g = m (67 + 8 * h + g) ∧ V (w + 17 + 1 + g) h = m (131 + 8 * g + h)) ∧
  (∀ h q, h < nH m → q < 8 → V (w + 26 + 1 + h) q = m (195 + 8 * h + q)) ∧
  (∀ k, k < 360 → V (w + 35) k = m (259 + k))
section CM1
variable {w x : Nat} {V : Nat → Nat → Int32} {m : Nat → Int32} {Q : Int32 → Prop} {P : Prop} {X : String → Prop}
theorem WRel.hosts (h : WRel V w m) : V w 1 = m 3 := h.1.2.1
theorem WRel.guests (h : WRel V w m) : V w 2 = m 4 := h.1.2.2.1
theorem WRel.must (h : WRel V w m) : V w 4 = m 7 := h.1.2.2.2.2.1
theorem WRel.not (h : WRel V w m) : V w 5 = m 8 := h.1.2.2.2.2.2.1
theorem WRel.like (h : WRel V w m) {a g : Nat} (ha : a < nH m) (hg : g < nG m) : V (w + 8 + 1 + a) g = m (67 + 8 * a + g) := (h.2.2.2.1 a g ha hg).1
theorem WRel.love (h : WRel V w m) {a g : Nat} (ha : a < nH m) (hg : g < nG m) : V (w + 17 + 1 + g) a = m (131 + 8 * g + a) := (h.2.2.2.1 a g ha hg).2
theorem WRel.book (h : WRel V w m) {a q : Nat} (ha : a < nH m) (hq : q < 8) : V (w + 26 + 1 + a) q = m (195 + 8 * a + q) := h.2.2.2.2.1 a q ha hq
theorem cl8 {k : Nat} (h : k < 8) : (nI k).toNatClampNeg = k := nI_clamp (by omega)
theorem in8 {k : Nat} (h : k < 8) : vp_in (nI k) 8 := vp_in_nI h (by decide)
theorem s1_in {a lo hi : Int32} (h : Q (b2i (inI a lo hi))) : wX1_in a lo hi Q := s6_isIn h
theorem s1_has {a k : Int32} (h : Q (b2i (isOf a k))) : wX1_has a k Q := p_itn (b2i_if h)
theorem s2_both {h g : Nat} (hW : WRel V w m) (h8 : nH m ≤ 8) (g8 : nG m ≤ 8) (hh : h < nH m) (hg : g < nG m) (hq : Q (b2i (f_may m h g))) : wX2_both w V (nI h) (nI g) Q := by
  unfold wX2_both
  rw [cl8 (show h < 8 by omega), cl8 (show g < 8 by omega), hW.like hh hg, hW.love hh hg]
  refine ⟨in8 (by omega), in8 (by omega), p_ite ?_⟩
  split
  · next z => rw [b2i_f (fun q => q.1 z)] at hq; exact hq
  · next z =>
    refine ⟨in8 (by omega), in8 (by omega), p_ite ?_⟩
    split
    · next z2 => rw [b2i_f (fun q => q.2 z2)] at hq; exact hq
    · next z2 => rw [b2i_t ⟨z, z2⟩] at hq; exact hq
theorem isOf_and {a b k : Int32} : isOf (a &&& b) k ↔ isOf a k ∧ isOf b k := by
  unfold isOf
  have e : ∀ x : Int32, (x &&& 1 = 1) ↔ x.toBitVec.getLsbD 0 = true := by
    intro x
    rw [← Int32.toBitVec_inj]
    constructor
    · intro h
      have := congrArg (fun z => BitVec.getLsbD z 0) h
      simpa using this
    · intro h
      apply BitVec.eq_of_getLsbD_eq
      intro i hi
      by_cases h0 : i = 0
      · subst h0; simpa using h
      · have : BitVec.getLsbD (1 : Int32).toBitVec i = false := by
          show BitVec.getLsbD (1#32) i = false
          rw [BitVec.getLsbD_one]
          simp [h0]
        simp [this, h0]
  rw [e, e, e]
  simp only [Int32.toBitVec_shiftRight, Int32.toBitVec_and]
  rw [BitVec.getLsbD_eq_getElem (by decide), BitVec.getLsbD_eq_getElem (by decide), BitVec.getLsbD_eq_getElem (by decide)] <;> simp [BitVec.sshiftRight_and_distrib]
theorem s2_can {h g : Nat} {q : Int32} (hW : WRel V w m) (h8 : nH m ≤ 8) (g8 : nG m ≤ 8) (hh : h < nH m) (hg : g < nG m) (hq : Q (b2i (f_can m h g q))) : wX2_can w V (nI h) (nI g) q Q := by
  unfold wX2_can
  rw [cl8 (show h < 8 by omega), cl8 (show g < 8 by omega), (hW.2.1 h hh).2.1, (hW.2.2.1 g hg).2.1]
  refine ⟨in8 (by omega), s1_has (p_bz ?_)⟩
  split
  · next z =>
    refine ⟨in8 (by omega), s1_has (p_bz ?_)⟩
    split
    · next z2 =>
      refine s2_both hW h8 g8 hh hg (p_bz ?_)
      split
      · next z3 => rw [b2i_t ⟨isOf_and.mpr ⟨z, z2⟩, z3⟩] at hq; exact hq
      · next z3 => rw [b2i_f (fun q => z3 q.2)] at hq; exact hq
    · next z2 => rw [b2i_f (fun q => z2 (isOf_and.mp q.1).2)] at hq; exact hq
  · next z => rw [b2i_f (fun q => z (isOf_and.mp q.1).1)] at hq; exact hq
theorem s2_isMarked {g : Nat} (hW : WRel V w m) (g8 : nG m ≤ 8) (hg : g < nG m) (hq : Q (b2i (f_marked m (m (45 + 3 * g))))) : wX2_isMarked w V (nI g) Q := by
  unfold wX2_isMarked
  rw [cl8 (show g < 8 by omega), (hW.2.2.1 g hg).2.2, hW.must, hW.not]
  refine ⟨in8 (by omega), p_itn ?_⟩
  split
  · next z =>
    refine ⟨in8 (by omega), p_itn ?_⟩
    split
    · next z2 => rw [b2i_t ⟨z, z2⟩] at hq; exact hq
    · next z2 => rw [b2i_f (fun q => z2 q.2)] at hq; exact hq
  · next z => rw [b2i_f (fun q => z q.1)] at hq; exact hq
theorem s2_sees {h : Nat} (hW : WRel V w m) (h8 : nH m ≤ 8) (hh : h < nH m) (hq : Q (f_sees m h)) : wX2_sees w V (nI h) Q := by
  have c8 := cl8 (show h < 8 by omega)
  refine fo_loop (fun n a i => wX2_sees_4 w V (nI h) Q n a (nI i)) _ Q 8 ?_ ?_ 8 0 0 rfl hq
  · intro n a hP
    rw [wX2_sees_4]
    exact br_t (by decide) hP
  · intro n a i hi hk
    rw [wX2_sees_4, c8, cl8 hi, hW.book hh hi]
    refine br_f (nI_ge hi (by decide)) ⟨in8 (by omega), in8 hi, p_itn ?_⟩
    split
    · next z =>
      rw [if_pos z] at hk
      exact nm_e (nm_r (nI_1 i) hk)
    · next z =>
      rw [if_neg z] at hk
      exact ⟨in8 (by omega), in8 hi, nm_e (nm_r (nI_1 i) hk)⟩
theorem s2_free {h : Nat} (hW : WRel V w m) (h8 : nH m ≤ 8) (hh : h < nH m) (hq : Q (f_free m h)) : wX2_free w V (nI h) Q := by
  have c8 := cl8 (show h < 8 by omega)
  unfold wX2_free
  rw [c8, (hW.2.1 h hh).2.1]
  refine ⟨in8 (by omega), nm_e ?_⟩
  refine fo_loop (fun n a i => wX2_free_9 w V (nI h) Q n a (nI i)) _ Q 8 ?_ ?_ 8 0 _ rfl hq
  · intro n a hP
    rw [wX2_free_9]
    exact br_t (by decide) hP
  · intro n a i hi hk
    rw [wX2_free_9, c8, cl8 hi, hW.book hh hi]
    refine br_f (nI_ge hi (by decide)) ⟨in8 (by omega), in8 hi, p_itn ?_⟩
    split
    · next z =>
      rw [if_pos z] at hk
      exact nm_r (Int32.and_neg_one) (nm_r (nI_1 i) hk)
    · next z =>
      rw [if_neg z] at hk
      exact nm_e (nm_r (nI_1 i) hk)
theorem s2_busy {g : Int32} (hW : WRel V w m) (hR : RowOk m) (hq : Q (f_busy m g)) : wX2_busy w V g Q := by
  have hH := hR.H; have h8 := hR.H8
  refine fo_loop (fun n a i => wX2_busy_4 w V g Q n a (nI i)) _ Q (nH m) ?_ ?_ (nH m) 0 0 (Nat.zero_add _) hq
  · intro n a hP
    rw [wX2_busy_4, hW.hosts]
    exact br_t (by rw [hH]; exact Int32.le_refl _) hP
  · intro n a h hi hk
    rw [wX2_busy_4, hW.hosts]
    refine br_f (by rw [hH]; exact nI_ge hi (by omega)) ?_
    refine fo_loop (fun n2 a q => wX2_busy_15 w V g Q (fun x2 x3 => wX2_busy_4 w V g Q n x2 x3) n2 a (nI h) (nI q)) _ (fun a => wX2_busy_4 w V g Q n a (nI (h + 1))) 8 ?_ ?_ 8 0 a rfl hk
    · intro n2 a hP
      rw [wX2_busy_15]
      exact br_t (by decide) (nm_r (nI_1 h) hP)
    · intro n2 a q hq2 hk
      rw [wX2_busy_15, cl8 (show h < 8 by omega), cl8 hq2, hW.book hi hq2]
      refine br_f (nI_ge hq2 (by decide)) ⟨in8 (by omega), in8 hq2, p_itn ?_⟩
      split
      · next z =>
        rw [if_pos z] at hk
        exact nm_e (nm_r (nI_1 q) hk)
      · next z =>
        rw [if_neg z] at hk
        exact nm_e (nm_r (nI_1 q) hk)
theorem s2_gladness (hW : WRel V w m) (hR : RowOk m) (hq : Q (f_gladness m)) : wX2_gladness w V Q := by
  have hH := hR.H; have h8 := hR.H8
  refine fo_loop (fun n a i => wX2_gladness_4 w V Q n a (nI i)) _ Q (nH m) ?_ ?_ (nH m) 0 0 (Nat.zero_add _) hq
  · intro n a hP
    rw [wX2_gladness_4, hW.hosts]
    exact br_t (by rw [hH]; exact Int32.le_refl _) hP
  · intro n a h hi hk
    rw [wX2_gladness_4, hW.hosts, cl8 (show h < 8 by omega), (hW.2.1 h hi).2.2.1]
    exact br_f (by rw [hH]; exact nI_ge hi (by omega)) ⟨in8 (by omega), nm_e (nm_r (nI_1 h) hk)⟩
theorem s2_bookings (hW : WRel V w m) (hR : RowOk m) (hq : Q (f_bookings m)) : wX2_bookings w V Q := by
  have hH := hR.H; have h8 := hR.H8
  refine fo_loop (fun n a i => wX2_bookings_4 w V Q n a (nI i)) _ Q (nH m) ?_ ?_ (nH m) 0 0 (Nat.zero_add _) hq
  · intro n a hP
    rw [wX2_bookings_4, hW.hosts]
    exact br_t (by rw [hH]; exact Int32.le_refl _) hP
  · intro n a h hi hk
    rw [wX2_bookings_4, hW.hosts]
    refine br_f (by rw [hH]; exact nI_ge hi (by omega)) ?_
    refine fo_loop (fun n2 a q => wX2_bookings_14 w V Q (fun x1 x2 => wX2_bookings_4 w V Q n x1 x2) n2 a (nI h) (nI q)) _ (fun a => wX2_bookings_4 w V Q n a (nI (h + 1))) 8 ?_ ?_ 8 0 a rfl hk
    · intro n2 a hP
      rw [wX2_bookings_14]
      exact br_t (by decide) (nm_r (nI_1 h) hP)
    · intro n2 a q hq2 hk
      rw [wX2_bookings_14, cl8 (show h < 8 by omega), cl8 hq2, hW.book hi hq2]
      refine br_f (nI_ge hq2 (by decide)) ⟨in8 (by omega), in8 hq2, p_itn ?_⟩
      split
      · next z =>
        rw [if_pos z] at hk
        exact nm_e (nm_r (nI_1 q) hk)
      · next z =>
        rw [if_neg z] at hk
        exact nm_e (nm_r (nI_1 q) hk)
theorem s1_likedBy {g : Nat} (hW : WRel V (x + 1) m) (hR : RowOk m) (hg : g < nG m) (hq : Q (f_liked m g)) : wX1_likedBy x V (nI g) Q := by
  have hH := hR.H; have h8 := hR.H8; have g8 := hR.G8
  refine fo_loop (fun n a i => wX1_likedBy_4 x V (nI g) Q n a (nI i)) _ Q (nH m) ?_ ?_ (nH m) 0 0 (Nat.zero_add _) hq
  · intro n a hP
    rw [wX1_likedBy_4, hW.hosts]
    exact br_t (by rw [hH]; exact Int32.le_refl _) hP
  · intro n a h hi hk
    rw [wX1_likedBy_4, hW.hosts, cl8 (show h < 8 by omega), cl8 (show g < 8 by omega), hW.like hi hg]
    exact br_f (by rw [hH]; exact nI_ge hi (by omega)) ⟨in8 (by omega), in8 (by omega), nm_e (nm_r (nI_1 h) hk)⟩
/-! who is there -/
theorem s1_there {k n : Int32} (h : if inI k 0 (n - 1) then P else X "java/lang/IndexOutOfBoundsException") : wX1_there k n P X := by
  refine s1_in (p_bn ?_)
  exact h
theorem s1_hostAt {h : Int32} (hW : WRel V (x + 1) m) (hq : if isHostP m h then P else X "java/lang/IndexOutOfBoundsException") : wX1_hostAt x V h P X := by
  unfold wX1_hostAt
  rw [hW.hosts]
  by_cases c : isHostP m h
  · rw [if_pos c] at hq; exact Or.inl (s1_there (by rw [if_pos c]; exact hq))
  · rw [if_neg c] at hq; exact Or.inr (s1_there (by rw [if_neg c]; exact hq))
theorem s1_guestAt {g : Int32} (hW : WRel V (x + 1) m) (hq : if isGuestP m g then P else X "java/lang/IndexOutOfBoundsException") : wX1_guestAt x V g P X := by
  unfold wX1_guestAt
  rw [hW.guests]
  by_cases c : isGuestP m g
  · rw [if_pos c] at hq; exact Or.inl (s1_there (by rw [if_pos c]; exact hq))
  · rw [if_neg c] at hq; exact Or.inr (s1_there (by rw [if_neg c]; exact hq))
theorem s1_quarterAt {q : Int32} (hq : if isQuarterP q then P else X "java/lang/IndexOutOfBoundsException") : wX1_quarterAt q P X := by
  unfold wX1_quarterAt
  by_cases c : isQuarterP q
  · rw [if_pos c] at hq; exact Or.inl (s1_there (by rw [if_pos (show inI q 0 (8 - 1) from c)]; exact hq))
  · rw [if_neg c] at hq; exact Or.inr (s1_there (by rw [if_neg (show ¬ inI q 0 (8 - 1) from c)]; exact hq))
theorem s1_question {a b : Int32} (h : if inI a 0 b then P else X "java/util/NoSuchElementException") : wX1_question a b P X := s1_in (p_bn h)
theorem s1_demand {a : Int32} (h : if a = 0 then X "java/lang/IllegalArgumentException" else P) : wX1_demand a P X := by
  unfold wX1_demand
  split at h
  · next z => exact ⟨fun q => absurd z q, fun _ => h⟩
  · next z => exact ⟨fun _ => h, fun q => absurd q z⟩
theorem s1_may {a : Int32} (h : if a = 0 then X "java/lang/IllegalStateException" else P) : wX1_may a P X := by
  unfold wX1_may
  split at h
  · next z => exact ⟨fun q => absurd z q, fun _ => h⟩
  · next z => exact ⟨fun _ => h, fun q => absurd q z⟩
end CM1
