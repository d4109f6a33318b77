/-! ===== PURE: can host guest alike log led ===== -/
section P5
variable {x t : Nat} {V : Nat → Nat → Int32} {m : Nat → Int32} {Q : Int32 → Prop} {Q2 : Int32 → (Nat → Nat → Int32) → Prop} {P : Prop} {X : String → Prop}
abbrev allP (m : Nat → Int32) (a b q : Int32) : Prop := isHostP m a ∧ isGuestP m b ∧ isQuarterP q
theorem s6_areThere {a b q : Int32} (hq : if allP (V (t + 1)) a b q then Q2 1 (vset V t 0 0) else Q2 0 (vset V t 0 1)) : wX6_areThere t V a b q Q2 := by
  have bad : ¬ allP (V (t + 1)) a b q → wX6_areThere_24 t a b q Q2 V := by
    intro c
    rw [if_neg c] at hq
    unfold wX6_areThere_24 wX6_areThere_29
    rw [vt0]
    exact ⟨fun _ => hq, fun z => absurd z (by decide)⟩
  refine s6_isHost (p_bz ?_)
  split
  · next c1 =>
    refine s6_isGuest (p_bz ?_)
    split
    · next c2 =>
      refine s6_isQuarter (p_bn ?_)
      split
      · next c3 =>
        rw [if_pos ⟨c1, c2, c3⟩] at hq
        unfold wX6_areThere_29
        rw [vt0]
        exact ⟨fun z => absurd rfl z, fun _ => hq⟩
      · next c3 => exact bad (fun z => c3 z.2.2)
    · next c2 => exact bad (fun z => c2 z.2.1)
  · next c1 => exact bad (fun z => c1 z.1)
def o_can (m : Nat → Int32) (a b q : Int32) : Ot := if allP m a b q then .inl (b2i (f_can m a.toNatClampNeg b.toNatClampNeg q)) else .inr (xIo, 1)
theorem s1_can {a b q : Int32} (hW : WRel V (x + 1) m) (hR : RowOk m) (hq : oC (o_can m a b q) Q X) : wX1_can x V a b q Q X := by
  unfold o_can at hq
  refine e1_allAt hW ?_
  split
  · next c =>
    rw [if_pos c] at hq
    obtain ⟨ha, hb, -⟩ := c
    obtain ⟨i, hi, hi8, rfl⟩ := hR.host ha
    obtain ⟨j, hj, hj8, rfl⟩ := hR.guest hb
    rw [cl8 hi8, cl8 hj8] at hq
    exact s2_can hW hR.H8 hR.G8 hi hj ⟨jz_b, hq⟩
  · next c => rw [if_neg c] at hq; exact hq
theorem s6_can {a b q : Int32} (hR : RowOk (V (t + 1))) (hq : oT (o_can (V (t + 1)) a b q) t V Q2) : wX6_can t V a b q Q2 := by
  unfold o_can at hq
  refine s6_areThere ?_
  split
  · next c =>
    rw [if_pos c] at hq
    refine br_f (by decide) ?_
    have e1 : vset V t 0 0 (t + 1) = V (t + 1) := vt1
    change Q2 _ _ at hq
    rw [← e1] at hq hR c
    generalize vset V t 0 0 = V1 at *
    obtain ⟨ha, hb, -⟩ := c
    obtain ⟨i, hi, hi8, rfl⟩ := hR.host ha
    obtain ⟨j, hj, hj8, rfl⟩ := hR.guest hb
    rw [cl8 hi8, cl8 hj8] at hq
    exact s6_canMeet hi8 hj8 (p_bz (b2i_if hq (Q := fun r => Q2 r V1)))
  · next c =>
    rw [if_neg c] at hq
    exact br_t rfl (hq _)
/-! ===== host guest ===== -/
def f_share (m : Nat → Int32) (h : Nat) : Int32 := if f_gladness m = 0 then 0 else (100 * m (13 + 4 * h)) / f_gladness m
def f_host (m : Nat → Int32) (h b : Nat) : Int32 := if b = 4 then f_free m h else if b = 5 then f_sees m h else if b = 6 then f_share m h else m (11 + 4 * h + b)
def o_host (m : Nat → Int32) (a b : Int32) : Ot := if isHostP m a then (if inI b 0 6 then .inl (f_host m a.toNatClampNeg b.toNatClampNeg) else .inr (xNs, 2)) else .inr (xIo, 1)
theorem s1_shareOf {h : Nat} (hW : WRel V (x + 1) m) (hR : RowOk m) (hh : h < nH m) (hq : Q (f_share m h)) : wX1_shareOf x V (nI h) Q := by
  have h8 := hR.H8
  unfold f_share at hq
  refine s2_gladness hW hR ⟨fun z => ?_, fun z => ?_⟩
  · rw [if_neg z] at hq
    exact ⟨in8 (by omega), z, by rw [cl8 (by omega), (hW.2.1 h hh).2.2.1]; exact hq⟩
  · rw [if_pos z] at hq; exact hq
theorem s1_host {a b : Int32} (hW : WRel V (x + 1) m) (hR : RowOk m) (hq : oC (o_host m a b) Q X) : wX1_host x V a b Q X := by
  unfold o_host at hq
  refine e1_hostAt hW ?_
  split
  · next c =>
    rw [if_pos c] at hq
    refine e1_question ?_
    split
    · next d =>
      rw [if_pos d] at hq
      obtain ⟨i, hi, hi8, rfl⟩ := hR.host c
      obtain ⟨k, hk, rfl⟩ := (inI_lit (n := 6) (by decide)).mp d
      rw [cl8 hi8, cl8 (by omega)] at hq
      obtain ⟨w1, w2, w3, w4⟩ := hW.2.1 i hi
      rw [cl8 hi8, w1, w2, w3, w4]
      have i8 := in8 hi8
      obtain rfl | rfl | rfl | rfl | rfl | rfl | rfl : k = 0 ∨ k = 1 ∨ k = 2 ∨ k = 3 ∨ k = 4 ∨ k = 5 ∨ k = 6 := by omega
      · exact br_t (by decide) ⟨i8, hq⟩
      · exact br_f (by decide) (br_t (by decide) ⟨i8, by rw [show 12 + 4 * i = 11 + 4 * i + 1 by omega]; exact hq⟩)
      · exact br_f (by decide) (br_f (by decide) (br_t (by decide) ⟨i8, by rw [show 13 + 4 * i = 11 + 4 * i + 2 by omega]; exact hq⟩))
      · exact br_f (by decide) (br_f (by decide) (br_f (by decide) (br_t (by decide) ⟨i8, by rw [show 14 + 4 * i = 11 + 4 * i + 3 by omega]; exact hq⟩)))
      · exact br_f (by decide) (br_f (by decide) (br_f (by decide) (br_f (by decide) (br_t (by decide) (s2_free hW hR.H8 hi hq)))))
      · exact br_f (by decide) (br_f (by decide) (br_f (by decide) (br_f (by decide) (br_f (by decide) (br_t (by decide) (s2_sees hW hR.H8 hi hq))))))
      · exact br_f (by decide) (br_f (by decide) (br_f (by decide) (br_f (by decide) (br_f (by decide) (br_f (by decide) (s1_shareOf hW hR hi hq))))))
    · next d => rw [if_neg d] at hq; exact hq
  · next c => rw [if_neg c] at hq; exact hq
theorem s6_host {a b : Int32} (hR : RowOk (V (t + 1))) (hq : oT (o_host (V (t + 1)) a b) t V Q2) : wX6_host t V a b Q2 := by
  unfold o_host at hq
  refine s6_isHost (p_bn ?_)
  split
  · next c =>
    rw [if_pos c] at hq
    refine s6_isIn (p_bn ?_)
    split
    · next d =>
      rw [if_pos d] at hq
      refine t_thr ?_
      rw [if_pos (by decide)]
      have e1 : vset V t 0 0 (t + 1) = V (t + 1) := vt1
      change Q2 _ _ at hq
      rw [← e1] at hq hR c
      generalize vset V t 0 0 = V1 at *
      obtain ⟨i, hi, hi8, rfl⟩ := hR.host c
      obtain ⟨k, hk, rfl⟩ := (inI_lit (n := 6) (by decide)).mp d
      rw [cl8 hi8, cl8 (by omega)] at hq
      obtain rfl | rfl | rfl | rfl | rfl | rfl | rfl : k = 0 ∨ k = 1 ∨ k = 2 ∨ k = 3 ∨ k = 4 ∨ k = 5 ∨ k = 6 := by omega
      · exact br_f (by decide) (s6_of hi8 (by decide) hq)
      · exact br_f (by decide) (s6_of hi8 (by decide) hq)
      · exact br_f (by decide) (s6_of hi8 (by decide) hq)
      · exact br_f (by decide) (s6_of hi8 (by decide) hq)
      · exact br_t (by decide) ⟨fun z => absurd (by decide) z, fun _ => s6_freeOf hi8 hq⟩
      · exact br_t (by decide) ⟨fun _ => ⟨fun z => absurd (by decide) z, fun _ => s6_seesOf hi8 hq⟩, fun z => absurd z (by decide)⟩
      · refine br_t (by decide) ⟨fun _ => ⟨fun _ => s6_gladness hR ⟨fun z => ?_, fun z => ?_⟩, fun z => absurd z (by decide)⟩, fun z => absurd z (by decide)⟩
        · change Q2 (f_share _ _) _ at hq
          unfold f_share at hq
          rw [if_neg z] at hq
          refine s6_of (w := 2) hi8 (by decide) (s6_gladness hR ⟨z, ?_⟩)
          rw [show 11 + 4 * i + 2 = 13 + 4 * i by omega]
          exact hq
        · change Q2 (f_share _ _) _ at hq
          unfold f_share at hq
          rw [if_pos z] at hq
          exact hq
    · next d =>
      rw [if_neg d] at hq
      exact t_thr (by rw [if_neg (by decide)]; exact hq _)
  · next c =>
    rw [if_neg c] at hq
    exact t_thr (by rw [if_neg (by decide)]; exact hq _)
def f_guest (m : Nat → Int32) (g b : Nat) : Int32 := if b = 3 then f_busy m (nI g) else if b = 4 then f_liked m g else if b = 5 then b2i (f_marked m (m (45 + 3 * g))) else m (43 + 3 * g + b)
def o_guest (m : Nat → Int32) (a b : Int32) : Ot := if isGuestP m a then (if inI b 0 5 then .inl (f_guest m a.toNatClampNeg b.toNatClampNeg) else .inr (xNs, 2)) else .inr (xIo, 1)
theorem s1_guest {a b : Int32} (hW : WRel V (x + 1) m) (hR : RowOk m) (hq : oC (o_guest m a b) Q X) : wX1_guest x V a b Q X := by
  unfold o_guest at hq
  refine e1_guestAt hW ?_
  split
  · next c =>
    rw [if_pos c] at hq
    refine e1_question ?_
    split
    · next d =>
      rw [if_pos d] at hq
      obtain ⟨i, hi, hi8, rfl⟩ := hR.guest c
      obtain ⟨k, hk, rfl⟩ := (inI_lit (n := 5) (by decide)).mp d
      rw [cl8 hi8, cl8 (by omega)] at hq
      obtain ⟨w1, w2, w3⟩ := hW.2.2.1 i hi
      rw [cl8 hi8, w1, w2, w3]
      have i8 := in8 hi8
      obtain rfl | rfl | rfl | rfl | rfl | rfl : k = 0 ∨ k = 1 ∨ k = 2 ∨ k = 3 ∨ k = 4 ∨ k = 5 := by omega
      · exact br_t (by decide) ⟨i8, hq⟩
      · exact br_f (by decide) (br_t (by decide) ⟨i8, by rw [show 44 + 3 * i = 43 + 3 * i + 1 by omega]; exact hq⟩)
      · exact br_f (by decide) (br_f (by decide) (br_t (by decide) ⟨i8, by rw [show 45 + 3 * i = 43 + 3 * i + 2 by omega]; exact hq⟩))
      · exact br_f (by decide) (br_f (by decide) (br_f (by decide) (br_t (by decide) (s2_busy hW hR hq))))
      · exact br_f (by decide) (br_f (by decide) (br_f (by decide) (br_f (by decide) (br_t (by decide) (s1_likedBy hW hR hi hq)))))
      · exact br_f (by decide) (br_f (by decide) (br_f (by decide) (br_f (by decide) (br_f (by decide) (s2_isMarked hW hR.G8 hi (p_bz (b2i_if hq)))))))
    · next d => rw [if_neg d] at hq; exact hq
  · next c => rw [if_neg c] at hq; exact hq
theorem s6_guest {a b : Int32} (hR : RowOk (V (t + 1))) (hq : oT (o_guest (V (t + 1)) a b) t V Q2) : wX6_guest t V a b Q2 := by
  unfold o_guest at hq
  refine s6_isGuest (p_bn ?_)
  split
  · next c =>
    rw [if_pos c] at hq
    refine s6_isIn (p_bn ?_)
    split
    · next d =>
      rw [if_pos d] at hq
      refine t_thr ?_
      rw [if_pos (by decide)]
      have e1 : vset V t 0 0 (t + 1) = V (t + 1) := vt1
      change Q2 _ _ at hq
      rw [← e1] at hq hR c
      generalize vset V t 0 0 = V1 at *
      obtain ⟨i, hi, hi8, rfl⟩ := hR.guest c
      obtain ⟨k, hk, rfl⟩ := (inI_lit (n := 5) (by decide)).mp d
      rw [cl8 hi8, cl8 (by omega)] at hq
      obtain rfl | rfl | rfl | rfl | rfl | rfl : k = 0 ∨ k = 1 ∨ k = 2 ∨ k = 3 ∨ k = 4 ∨ k = 5 := by omega
      · exact br_f (by decide) (s6_ofGuest hi8 (by decide) hq)
      · exact br_f (by decide) (s6_ofGuest hi8 (by decide) hq)
      · exact br_f (by decide) (s6_ofGuest hi8 (by decide) hq)
      · exact br_t (by decide) ⟨fun z => absurd (by decide) z, fun _ => s6_busyOf hR hq⟩
      · exact br_t (by decide) ⟨fun _ => ⟨fun z => absurd (by decide) z, fun _ => s6_likedOf hi8 hR hq⟩, fun z => absurd z (by decide)⟩
      · refine br_t (by decide) ⟨fun _ => ⟨fun _ => s6_ofGuest (w := 2) hi8 (by decide) (s6_passes (p_bz ?_)), fun z => absurd z (by decide)⟩, fun z => absurd z (by decide)⟩
        rw [show 43 + 3 * i + 2 = 45 + 3 * i by omega]
        exact b2i_if (Q := fun r => Q2 r V1) hq
    · next d =>
      rw [if_neg d] at hq
      exact t_thr (by rw [if_neg (by decide)]; exact hq _)
  · next c =>
    rw [if_neg c] at hq
    exact t_thr (by rw [if_neg (by decide)]; exact hq _)
/-! ===== alike ===== -/
theorem s1_likens {a b : Nat} (hW : WRel V (x + 1) m) (hR : RowOk m) (ha : a < nH m) (hb : b < nH m) (hq : Q (b2i (f_areAlike m a b = true))) : wX1_likens x V (nI a) (nI b) Q := by
  have h8 := hR.H8; have g8 := hR.G8; have hG := hR.G
  unfold wX1_likens
  rw [cl8 (show a < 8 by omega), cl8 (show b < 8 by omega), (hW.2.1 a ha).2.1, (hW.2.1 b hb).2.1]
  unfold f_areAlike at hq
  refine ⟨in8 (by omega), in8 (by omega), br_c (fun z => ?_) (fun z => ?_)⟩
  · rw [decide_eq_true z, Bool.true_and] at hq
    refine all_loop (fun n i => wX1_likens_25 x V (nI a) (nI b) Q n (nI i)) (fun g => decide (m (67 + 8 * a + g) = m (67 + 8 * b + g))) (Q 1) (Q 0) (nG m) ?_ ?_ (nG m) 0 (Nat.zero_add _) (b2i_if hq)
    · intro n hT
      rw [wX1_likens_25, hW.guests]
      exact br_t (by rw [hG]; exact Int32.le_refl _) hT
    · intro n g hg hk
      rw [wX1_likens_25, hW.guests]
      refine br_f (by rw [hG]; exact nI_ge hg (by omega)) ⟨in8 (by omega), in8 (by omega), in8 (by omega), in8 (by omega), ?_⟩
      rw [cl8 (show a < 8 by omega), cl8 (show b < 8 by omega), cl8 (show g < 8 by omega), hW.like ha hg, hW.like hb hg]
      refine br_c (fun z => ?_) (fun z => ?_)
      · rw [if_pos (decide_eq_true z)] at hk; exact nm_r (nI_1 g) hk
      · rw [if_neg (by rw [decide_eq_false z]; decide)] at hk; exact hk
  · rw [decide_eq_false z, Bool.false_and] at hq
    exact hq
theorem s6_areAlike {a b : Nat} (hR : RowOk (V (t + 1))) (ha : a < 8) (hb : b < 8) (hq : Q (b2i (f_areAlike (V (t + 1)) a b = true))) : wX6_areAlike t V (nI a) (nI b) Q := by
  have h8 := hR.H8; have g8 := hR.G8; have hG := hR.G
  unfold wX6_areAlike
  refine s6_of (w := 1) ha (by decide) (s6_of (w := 1) hb (by decide) ?_)
  rw [show 11 + 4 * a + 1 = 12 + 4 * a by omega, show 11 + 4 * b + 1 = 12 + 4 * b by omega]
  unfold f_areAlike at hq
  have key : ∀ c : Bool, Q (b2i ((c && allB (fun g => decide (V (t + 1) (67 + 8 * a + g) = V (t + 1) (67 + 8 * b + g))) (nG (V (t + 1))) 0) = true)) → ∃ f9, wX6_areAlike_24 t V (nI a) (nI b) Q f9 (b2i (c = true)) 0 := by
    intro c hc
    refine flag_loop (fun n b2 i => wX6_areAlike_24 t V (nI a) (nI b) Q n (b2i (b2 = true)) (nI i)) (fun g => decide (V (t + 1) (67 + 8 * a + g) = V (t + 1) (67 + 8 * b + g))) (fun c => Q (b2i (c = true))) (nG (V (t + 1))) ?_ ?_ ?_ (nG (V (t + 1))) 0 c (Nat.zero_add _) hc
    · intro n c hP
      rw [wX6_areAlike_24]
      exact br_t (by rw [hG]; exact Int32.le_refl _) ⟨jz_b, hP⟩
    · intro n g hg hP
      rw [wX6_areAlike_24]
      exact br_f (by rw [hG]; exact nI_ge hg (by omega)) (br_t rfl ⟨jz_b, hP⟩)
    · intro n g hg hk
      rw [wX6_areAlike_24]
      refine br_f (by rw [hG]; exact nI_ge hg (by omega)) (br_f (by decide) (s6_rankOf ha (by omega) (s6_rankOf hb (by omega) ⟨fun z => ?_, fun z => ?_⟩)))
      · rw [decide_eq_false z] at hk; exact nm_r (nI_1 g) hk
      · rw [decide_eq_true z] at hk; exact nm_r (nI_1 g) hk
  refine ⟨fun z => ?_, fun z => ?_⟩
  · rw [decide_eq_false z] at hq; exact key false hq
  · rw [decide_eq_true z] at hq; exact key true hq
theorem s1_alike (hW : WRel V (x + 1) m) (hR : RowOk m) (hq : Q (f_alike m)) : wX1_alike x V Q := by
  have hH := hR.H; have h8 := hR.H8
  refine fo_loop (fun n c a => wX1_alike_4 x V Q n c (nI a)) (fun a n => fo (fun b n => n + (if f_areAlike m a b = true then 1 else 0)) (nH m - (a + 1)) (a + 1) n) Q (nH m) ?_ ?_ (nH m) 0 0 (Nat.zero_add _) hq
  · intro n c hP
    rw [wX1_alike_4, hW.hosts]
    exact br_t (by rw [hH]; exact Int32.le_refl _) hP
  · intro n c a ha hk
    rw [wX1_alike_4, hW.hosts]
    refine br_f (by rw [hH]; exact nI_ge ha (by omega)) (nm_r (nI_1 a) ?_)
    refine fo_loop (fun n2 c b => wX1_alike_19 x V Q (fun x1 x2 => wX1_alike_4 x V Q n x1 x2) n2 c (nI a) (nI b)) (fun b n => n + (if f_areAlike m a b = true then 1 else 0)) (fun c => wX1_alike_4 x V Q n c (nI (a + 1))) (nH m) ?_ ?_ (nH m - (a + 1)) (a + 1) c (by omega) hk
    · intro n2 c hP
      rw [wX1_alike_19, hW.hosts]
      exact br_t (by rw [hH]; exact Int32.le_refl _) (nm_r (nI_1 a) hP)
    · intro n2 c b hb hk
      rw [wX1_alike_19, hW.hosts]
      refine br_f (by rw [hH]; exact nI_ge hb (by omega)) (s1_likens hW hR ha hb (p_bz ?_))
      split
      · next z => rw [if_pos z] at hk; exact nm_e (nm_r (nI_1 b) hk)
      · next z => rw [if_neg z] at hk; exact nm_e (nm_r (nI_1 b) hk)
theorem s6_alike (hR : RowOk (V (t + 1))) (hq : Q2 (f_alike (V (t + 1))) (vset V t 0 0)) : wX6_alike t V Q2 := by
  unfold wX6_alike
  have e1 : vset V t 0 0 (t + 1) = V (t + 1) := vt1
  rw [← e1] at hq hR
  generalize vset V t 0 0 = V1 at *
  have hH := hR.H; have h8 := hR.H8
  refine fo_loop (fun n c a => wX6_alike_9 t Q2 n V1 c (nI a)) (fun a n => fo (fun b n => n + (if f_areAlike (V1 (t + 1)) a b = true then 1 else 0)) (nH (V1 (t + 1)) - (a + 1)) (a + 1) n) (fun c => Q2 c V1) (nH (V1 (t + 1))) ?_ ?_ (nH (V1 (t + 1))) 0 0 (Nat.zero_add _) hq
  · intro n c hP
    rw [wX6_alike_9]
    exact br_t (by rw [hH]; exact Int32.le_refl _) hP
  · intro n c a ha hk
    rw [wX6_alike_9]
    refine br_f (by rw [hH]; exact nI_ge ha (by omega)) (nm_r (nI_1 a) ?_)
    refine fo_loop (fun n2 c b => wX6_alike_23 t Q2 (fun V x1 x2 => wX6_alike_9 t Q2 n V x1 x2) n2 V1 c (nI a) (nI b)) (fun b n => n + (if f_areAlike (V1 (t + 1)) a b = true then 1 else 0)) (fun c => wX6_alike_9 t Q2 n V1 c (nI (a + 1))) (nH (V1 (t + 1))) ?_ ?_ (nH (V1 (t + 1)) - (a + 1)) (a + 1) c (by omega) hk
    · intro n2 c hP
      rw [wX6_alike_23]
      exact br_t (by rw [hH]; exact Int32.le_refl _) (nm_r (nI_1 a) hP)
    · intro n2 c b hb hk
      rw [wX6_alike_23]
      refine br_f (by rw [hH]; exact nI_ge hb (by omega)) (s6_areAlike hR (by omega) (by omega) (p_bz ?_))
      split
      · next z => rw [if_pos z] at hk; exact nm_e (nm_r (nI_1 b) hk)
      · next z => rw [if_neg z] at hk; exact nm_e (nm_r (nI_1 b) hk)
/-! ===== log led ===== -/
def f_log (m : Nat → Int32) (i w : Nat) : Int32 := m (259 + (6 * i + w))
theorem log_r (hR : RowOk m) : ∃ r, r ≤ 60 ∧ m 9 = nI r := hR.2.2.2.2.2.2.2.2.2.2.2.1
theorem s1_ofLog {i w : Nat} (hW : WRel V (x + 1) m) (hi : i < 60) (hw : w < 6) (hq : Q (f_log m i w)) : wX1_ofLog x V (nI i) (nI w) Q := by
  have e : (6 : Int32) * nI i + nI w = nI (6 * i + w) := by rw [show (6 : Int32) = nI 6 from rfl, pk_mul, nI_add]
  unfold wX1_ofLog
  rw [e, nI_clamp (by omega)]
  exact ⟨vp_in_nI (by omega) (by decide), by rw [hW.2.2.2.2.2 _ (by omega)]; exact hq⟩
theorem s6_logged {i w : Nat} (hi : i < 60) (hw : w < 6) (hq : Q (f_log (V (t + 1)) i w)) : wX6_logged t V (nI i) (nI w) Q := by
  have e : (259 : Int32) + (6 : Int32) * nI i + nI w = nI (259 + (6 * i + w)) := by rw [show (6 : Int32) = nI 6 from rfl, show (259 : Int32) = nI 259 from rfl, pk_mul, nI_add, nI_add, Nat.add_assoc]
  unfold wX6_logged
  rw [e, nI_clamp (by omega)]
  exact ⟨vp_in_nI (by omega) (by decide), hq⟩
def o_log (m : Nat → Int32) (a b : Int32) : Ot := if inI b 0 5 then .inl (if inI a 0 (m 9 - 1) then f_log m a.toNatClampNeg b.toNatClampNeg else -2) else .inr (xNs, 1)
theorem s1_log {a b : Int32} (hW : WRel V (x + 1) m) (hR : RowOk m) (hq : oC (o_log m a b) Q X) : wX1_log x V a b Q X := by
  unfold o_log at hq
  refine e1_question ?_
  split
  · next c =>
    rw [if_pos c] at hq
    obtain ⟨k, hk, rfl⟩ := (inI_lit (n := 5) (by decide)).mp c
    rw [hW.1.2.2.2.2.2.2.2.1]
    refine s1_in (p_bz ?_)
    split
    · next d =>
      rw [if_pos d] at hq
      obtain ⟨r, hr, er⟩ := log_r hR
      rw [er] at d
      obtain ⟨i, hi, rfl⟩ := (inI_nat (by omega)).mp d
      rw [nI_clamp (by omega), nI_clamp (by omega)] at hq
      exact s1_ofLog hW (by omega) (by omega) hq
    · next d => rw [if_neg d] at hq; exact hq
  · next c => rw [if_neg c] at hq; exact hq
theorem s6_log {a b : Int32} (hR : RowOk (V (t + 1))) (hq : oT (o_log (V (t + 1)) a b) t V Q2) : wX6_log t V a b Q2 := by
  unfold o_log at hq
  refine s6_isIn (p_bn ?_)
  split
  · next c =>
    rw [if_pos c] at hq
    refine t_thr ?_
    rw [if_pos (by decide)]
    have e1 : vset V t 0 0 (t + 1) = V (t + 1) := vt1
    change Q2 _ _ at hq
    rw [← e1] at hq hR
    generalize vset V t 0 0 = V1 at *
    obtain ⟨k, hk, rfl⟩ := (inI_lit (n := 5) (by decide)).mp c
    refine s6_isIn (p_bz ?_)
    split
    · next d =>
      rw [if_pos d] at hq
      obtain ⟨r, hr, er⟩ := log_r hR
      rw [er] at d
      obtain ⟨i, hi, rfl⟩ := (inI_nat (by omega)).mp d
      rw [nI_clamp (by omega), nI_clamp (by omega)] at hq
      exact s6_logged (by omega) (by omega) hq
    · next d => rw [if_neg d] at hq; exact hq
  · next c =>
    rw [if_neg c] at hq
    exact t_thr (by rw [if_neg (by decide)]; exact hq _)
def f_led (m : Nat → Int32) (a b : Int32) (r : Nat) : Int32 × Int32 := fo (fun j z => if f_log m (r - j - 1) 1 = a then (z.1 + 1, f_log m (r - j - 1) 0) else z) r 0 (0, -1)
def o_led (m : Nat → Int32) (a b : Int32) : Ot := if isHostP m a then .inl (if b = 0 then (f_led m a b (m 9).toNatClampNeg).1 else (f_led m a b (m 9).toNatClampNeg).2) else .inr (xIo, 1)
theorem s1_led {a b : Int32} (hW : WRel V (x + 1) m) (hR : RowOk m) (hq : oC (o_led m a b) Q X) : wX1_led x V a b Q X := by
  unfold o_led at hq
  refine e1_hostAt hW ?_
  obtain ⟨r, hr, er⟩ := log_r hR
  split
  · next c =>
    rw [if_pos c, er, nI_clamp (by omega)] at hq
    rw [hW.1.2.2.2.2.2.2.2.1, er]
    refine nm_e ?_
    refine fo_loop (fun n (z : Int32 × Int32) j => wX1_led_21 x V a b Q X n z.1 z.2 (nI (r - j) - 1)) (fun j z => if f_log m (r - j - 1) 1 = a then (z.1 + 1, f_log m (r - j - 1) 0) else z) (fun z => Q (if b = 0 then z.1 else z.2)) r ?_ ?_ r 0 (0, -1) (Nat.zero_add _) hq
    · intro n z hP
      rw [wX1_led_21, Nat.sub_self]
      refine br_t (by decide) (br_c (fun z => ?_) (fun z => ?_))
      · rw [if_pos z] at hP; exact hP
      · rw [if_neg z] at hP; exact hP
    · intro n z j hj hk
      have en : nI (r - j) - 1 = nI (r - j - 1) := by
        rw [show r - j = (r - j - 1) + 1 by omega, nI_pred]; rfl
      have en2 : nI (r - j - 1) + (-1 : Int32) = nI (r - (j + 1)) - 1 := by
        rw [show r - (j + 1) = r - j - 1 by omega, Int32.sub_eq_add_neg]
      rw [wX1_led_21, en]
      refine br_f (nI_pos (by omega)) (s1_ofLog (w := 1) hW (by omega) (by decide) (br_c (fun q => nm_e (s1_ofLog (w := 0) hW (by omega) (by decide) ?_)) (fun q => ?_)))
      · rw [if_pos q] at hk; exact nm_r en2 hk
      · rw [if_neg q] at hk; exact nm_r en2 hk
  · next c => rw [if_neg c] at hq; exact hq
theorem s6_led {a b : Int32} (hR : RowOk (V (t + 1))) (hq : oT (o_led (V (t + 1)) a b) t V Q2) : wX6_led t V a b Q2 := by
  unfold o_led at hq
  refine s6_isHost (p_bn ?_)
  split
  · next c =>
    rw [if_pos c] at hq
    refine t_thr ?_
    rw [if_pos (by decide)]
    have e1 : vset V t 0 0 (t + 1) = V (t + 1) := vt1
    change Q2 _ _ at hq
    rw [← e1] at hq hR
    generalize vset V t 0 0 = V1 at *
    obtain ⟨r, hr, er⟩ := log_r hR
    rw [er, nI_clamp (by omega)] at hq
    rw [er]
    refine nm_e ?_
    refine fo_loop (fun n (z : Int32 × Int32) j => wX6_led_42 t a b Q2 n V1 z.1 z.2 (nI (r - j) - 1)) (fun j z => if f_log (V1 (t + 1)) (r - j - 1) 1 = a then (z.1 + 1, f_log (V1 (t + 1)) (r - j - 1) 0) else z) (fun z => Q2 (if b = 0 then z.1 else z.2) V1) r ?_ ?_ r 0 (0, -1) (Nat.zero_add _) hq
    · intro n z hP
      rw [wX6_led_42, Nat.sub_self]
      refine br_t (by decide) (br_c (fun z => ?_) (fun z => ?_))
      · rw [if_pos z] at hP; exact hP
      · rw [if_neg z] at hP; exact hP
    · intro n z j hj hk
      have en : nI (r - j) - 1 = nI (r - j - 1) := by
        rw [show r - j = (r - j - 1) + 1 by omega, nI_pred]; rfl
      have en2 : nI (r - j - 1) + (-1 : Int32) = nI (r - (j + 1)) - 1 := by
        rw [show r - (j + 1) = r - j - 1 by omega, Int32.sub_eq_add_neg]
      rw [wX6_led_42, en]
      refine br_f (nI_pos (by omega)) (s6_logged (w := 1) (by omega) (by decide) (br_c (fun q => nm_e (s6_logged (w := 0) (by omega) (by decide) ?_)) (fun q => ?_)))
      · rw [if_pos q] at hk; exact nm_r en2 hk
      · rw [if_neg q] at hk; exact nm_r en2 hk
  · next c =>
    rw [if_neg c] at hq
    exact t_thr (by rw [if_neg (by decide)]; exact hq _)
end P5
