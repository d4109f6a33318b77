/-! ===== PURE: outcomes; plain questions that throw ===== -/
/-- what a question answers: a number, or what is thrown and the code that the twin has for it -/
abbrev Ot : Type := Int32 ⊕ (String × Int32)
def oC (o : Ot) (Q : Int32 → Prop) (X : String → Prop) : Prop := match o with | .inl r => Q r | .inr e => X e.1
def oT (o : Ot) (t : Nat) (V : Nat → Nat → Int32) (Q : Int32 → (Nat → Nat → Int32) → Prop) : Prop := match o with | .inl r => Q r (vset V t 0 0) | .inr e => ∀ r, Q r (vset V t 0 e.2)
abbrev xIo : String := "java/lang/IndexOutOfBoundsException"
abbrev xIa : String := "java/lang/IllegalArgumentException"
abbrev xIs : String := "java/lang/IllegalStateException"
abbrev xNs : String := "java/util/NoSuchElementException"
theorem orE {c : Prop} [Decidable c] {W : Prop → (String → Prop) → Prop} {s : String} (hW : ∀ P X, (if c then P else X s) → W P X) {P : Prop} {X : String → Prop} (h : if c then P else X s) : W P (fun _ => False) ∨ W False X := by
  by_cases z : c
  · rw [if_pos z] at h
    exact Or.inl (hW _ _ (by rw [if_pos z]; exact h))
  · rw [if_neg z] at h
    exact Or.inr (hW _ _ (by rw [if_neg z]; exact h))
theorem orE2 {c : Prop} [Decidable c] {W : Prop → (String → Prop) → Prop} {s : String} (hW : ∀ P X, (if c then X s else P) → W P X) {P : Prop} {X : String → Prop} (h : if c then X s else P) : W P (fun _ => False) ∨ W False X := by
  by_cases z : c
  · rw [if_pos z] at h
    exact Or.inr (hW _ _ (by rw [if_pos z]; exact h))
  · rw [if_neg z] at h
    exact Or.inl (hW _ _ (by rw [if_neg z]; exact h))
section P3
variable {x t : Nat} {V : Nat → Nat → Int32} {m : Nat → Int32} {Q : Int32 → Prop} {Q2 : Int32 → (Nat → Nat → Int32) → Prop} {P : Prop} {X : String → Prop}
theorem e1_hostAt {h : Int32} (hW : WRel V (x + 1) m) (hq : if isHostP m h then P else X xIo) : wX1_hostAt x V h P (fun _ => False) ∨ wX1_hostAt x V h False X := orE (W := fun P X => wX1_hostAt x V h P X) (fun _ _ => s1_hostAt hW) hq
theorem e1_guestAt {h : Int32} (hW : WRel V (x + 1) m) (hq : if isGuestP m h then P else X xIo) : wX1_guestAt x V h P (fun _ => False) ∨ wX1_guestAt x V h False X := orE (W := fun P X => wX1_guestAt x V h P X) (fun _ _ => s1_guestAt hW) hq
theorem e1_quarterAt {h : Int32} (hq : if isQuarterP h then P else X xIo) : wX1_quarterAt h P (fun _ => False) ∨ wX1_quarterAt h False X := orE (W := fun P X => wX1_quarterAt h P X) (fun _ _ => s1_quarterAt) hq
theorem e1_question {a b : Int32} (hq : if inI a 0 b then P else X xNs) : wX1_question a b P (fun _ => False) ∨ wX1_question a b False X := orE (W := fun P X => wX1_question a b P X) (fun _ _ => s1_question) hq
theorem e1_demand {a : Int32} (hq : if a = 0 then X xIa else P) : wX1_demand a P (fun _ => False) ∨ wX1_demand a False X := orE2 (W := fun P X => wX1_demand a P X) (fun _ _ => s1_demand) hq
theorem e1_may {a : Int32} (hq : if a = 0 then X xIs else P) : wX1_may a P (fun _ => False) ∨ wX1_may a False X := orE2 (W := fun P X => wX1_may a P X) (fun _ _ => s1_may) hq
theorem e1_twoHosts {a b : Int32} (hW : WRel V (x + 1) m) (hq : if isHostP m a ∧ isHostP m b then P else X xIo) : wX1_twoHosts x V a b P (fun _ => False) ∨ wX1_twoHosts x V a b False X := by
  refine orE (c := isHostP m a ∧ isHostP m b) (W := fun P X => wX1_twoHosts x V a b P X) (fun P X h => s1_twoHosts hW ?_) hq
  by_cases c : isHostP m a
  · by_cases d : isHostP m b
    · rw [if_pos c, if_pos d]; rw [if_pos ⟨c, d⟩] at h; exact h
    · rw [if_pos c, if_neg d]; rw [if_neg (fun z => d z.2)] at h; exact h
  · rw [if_neg c]; rw [if_neg (fun z => c z.1)] at h; exact h
theorem e1_allAt {h g q : Int32} (hW : WRel V (x + 1) m) (hq : if isHostP m h ∧ isGuestP m g ∧ isQuarterP q then P else X xIo) : wX1_allAt x V h g q P (fun _ => False) ∨ wX1_allAt x V h g q False X := by
  refine orE (c := isHostP m h ∧ isGuestP m g ∧ isQuarterP q) (W := fun P X => wX1_allAt x V h g q P X) (fun P X hh => s1_allAt hW ?_) hq
  by_cases c : isHostP m h
  · by_cases d : isGuestP m g
    · by_cases e : isQuarterP q
      · rw [if_pos c, if_pos d, if_pos e]; rw [if_pos ⟨c, d, e⟩] at hh; exact hh
      · rw [if_pos c, if_pos d, if_neg e]; rw [if_neg (fun z => e z.2.2)] at hh; exact hh
    · rw [if_pos c, if_neg d]; rw [if_neg (fun z => d z.2.1)] at hh; exact hh
  · rw [if_neg c]; rw [if_neg (fun z => c z.1)] at hh; exact hh
/-! ===== treaty ===== -/
def o_treaty (m : Nat → Int32) (a b : Int32) : Ot := if isHostP m a ∧ isHostP m b then (if a = b then .inr (xIa, 2) else .inl (f_treaty m a.toNatClampNeg b.toNatClampNeg).1) else .inr (xIo, 1)
theorem s1_treaty {a b : Int32} (hW : WRel V (x + 1) m) (hR : RowOk m) (hq : oC (o_treaty m a b) Q X) : wX1_treaty x V a b Q X := by
  unfold o_treaty at hq
  refine e1_twoHosts hW ?_
  split
  · next c =>
    rw [if_pos c] at hq
    obtain ⟨ha, hb⟩ := c
    obtain ⟨i, hi, hi8, rfl⟩ := hR.host ha
    obtain ⟨j, hj, hj8, rfl⟩ := hR.host hb
    refine br_c (fun z => ?_) (fun z => ?_)
    · rw [if_pos z] at hq
      exact e1_demand (by rw [if_pos rfl]; exact hq)
    · rw [if_neg z] at hq
      refine e1_demand ?_
      rw [if_neg (by decide)]
      rw [cl8 hi8, cl8 hj8] at hq
      refine fo_loop (fun n (z : Int32 × Int32) q => wX1_treaty_27 x V (nI i) (nI j) Q X n z.1 z.2 (nI q)) _ (fun z => Q z.1) 9 ?_ ?_ 9 0 (-1, -1) rfl hq
      · intro n a hP
        rw [wX1_treaty_27]
        exact br_t (by decide) hP
      · intro n a q hq2 hk
        rw [wX1_treaty_27]
        refine br_f (nI_nlt (b := q) (a := 8) (by omega) (by omega)) (s1_hasBy hW hR hi (by omega) (nm_e ?_))
        rw [show (8 : Int32) - nI q = nI (8 - q) from pk_sub (a := 8) (by omega)]
        refine s1_hasBy hW hR hj (by omega) (nm_e (br_c (fun z1 => ?_) fun z1 => br_c (fun z2 => ?_) fun z2 => br_c (fun z3 => nm_e ?_) fun z3 => ?_))
        · rw [if_pos z1] at hk; exact nm_r (nI_1 q) hk
        · rw [if_neg z1, if_pos z2] at hk; exact nm_r (nI_1 q) hk
        · rw [if_neg z1, if_neg z2, if_pos z3] at hk; exact nm_r (nI_1 q) hk
        · rw [if_neg z1, if_neg z2, if_neg z3] at hk; exact nm_r (nI_1 q) hk
  · next c =>
    rw [if_neg c] at hq
    exact hq
theorem s6_treaty {a b : Int32} (hR : RowOk (V (t + 1))) (hq : oT (o_treaty (V (t + 1)) a b) t V Q2) : wX6_treaty t V a b Q2 := by
  have bad : ¬ (isHostP (V (t + 1)) a ∧ isHostP (V (t + 1)) b) → wX6_treaty_17 t a b Q2 V := by
    intro c
    unfold o_treaty at hq
    rw [if_neg c] at hq
    exact t_thr (by rw [if_neg (by decide)]; exact hq _)
  refine s6_isHost (p_bz ?_)
  split
  · next c1 =>
    refine s6_isHost (p_bn ?_)
    split
    · next c2 =>
      unfold o_treaty at hq
      rw [if_pos ⟨c1, c2⟩] at hq
      refine ⟨fun z => ?_, fun z => ?_⟩
      · rw [if_neg z] at hq
        refine t_thr ?_
        rw [if_pos (by decide)]
        have e1 : vset V t 0 0 (t + 1) = V (t + 1) := vt1
        change Q2 _ _ at hq
        rw [← e1] at hq hR c1 c2
        generalize vset V t 0 0 = V1 at *
        obtain ⟨i, hi, hi8, rfl⟩ := hR.host c1
        obtain ⟨j, hj, hj8, rfl⟩ := hR.host c2
        rw [cl8 hi8, cl8 hj8] at hq
        refine fo_loop (fun n (z : Int32 × Int32) q => wX6_treaty_51 t (nI i) (nI j) Q2 n V1 z.1 z.2 (nI q)) _ (fun z => Q2 z.1 V1) 9 ?_ ?_ 9 0 (-1, -1) rfl hq
        · intro n a hP
          rw [wX6_treaty_51]
          exact br_t (by decide) hP
        · intro n a q hq2 hk
          rw [wX6_treaty_51]
          refine br_f (nI_nlt (b := q) (a := 8) (by omega) (by omega)) (s6_hasBy hR hi (by omega) (nm_e ?_))
          rw [show (8 : Int32) - nI q = nI (8 - q) from pk_sub (a := 8) (by omega)]
          refine s6_hasBy hR hj (by omega) (nm_e (br_c (fun z1 => ?_) fun z1 => br_c (fun z2 => ?_) fun z2 => br_c (fun z3 => nm_e ?_) fun z3 => ?_))
          · rw [if_pos z1] at hk; exact nm_r (nI_1 q) hk
          · rw [if_neg z1, if_pos z2] at hk; exact nm_r (nI_1 q) hk
          · rw [if_neg z1, if_neg z2, if_pos z3] at hk; exact nm_r (nI_1 q) hk
          · rw [if_neg z1, if_neg z2, if_neg z3] at hk; exact nm_r (nI_1 q) hk
      · rw [if_pos z] at hq
        exact t_thr (by rw [if_neg (by decide)]; exact hq _)
    · next c2 => exact bad (fun z => c2 z.2)
  · next c1 => exact bad (fun z => c1 z.1)
/-! ===== rests ===== -/
def o_rests (m : Nat → Int32) (a b : Int32) : Ot := if isHostP m a ∧ isGuestP m b then .inl (f_rests m a.toNatClampNeg b.toNatClampNeg) else .inr (xIo, 1)
theorem e1_hostGuest {h g : Int32} (hW : WRel V (x + 1) m) (hq : if isHostP m h ∧ isGuestP m g then P else X xIo) : wX1_hostAt x V h (wX1_guestAt x V g P (fun _ => False) ∨ wX1_guestAt x V g False X) (fun _ => False) ∨ wX1_hostAt x V h False X := by
  refine e1_hostAt hW ?_
  split
  · next c =>
    refine e1_guestAt hW ?_
    split
    · next d => rw [if_pos ⟨c, d⟩] at hq; exact hq
    · next d => rw [if_neg (fun z => d z.2)] at hq; exact hq
  · next c => rw [if_neg (fun z => c z.1)] at hq; exact hq
theorem s1_gateHas {a b : Nat} (ha : a < 2) (hb : b < 2) (hq : Q (f_gateHas a b)) : wX1_gateHas (nI a) (nI b) Q := by
  obtain rfl | rfl : a = 0 ∨ a = 1 := by omega
  all_goals obtain rfl | rfl : b = 0 ∨ b = 1 := by omega
  · exact ⟨fun _ => ⟨fun _ => hq, fun z => absurd z (by decide)⟩, fun z => absurd z (by decide)⟩
  · exact ⟨fun _ => ⟨fun z => absurd rfl z, fun z => hq⟩, fun z => absurd z (by decide)⟩
  · exact ⟨fun z => absurd rfl z, fun _ => ⟨fun _ => hq, fun z => absurd z (by decide)⟩⟩
  · exact ⟨fun z => absurd rfl z, fun _ => ⟨fun z => absurd rfl z, fun z => hq⟩⟩
theorem s6_gateHas {a b : Nat} (ha : a < 2) (hb : b < 2) (hq : Q (f_gateHas a b)) : wX6_gateHas (nI a) (nI b) Q := by
  obtain rfl | rfl : a = 0 ∨ a = 1 := by omega
  all_goals obtain rfl | rfl : b = 0 ∨ b = 1 := by omega
  · exact ⟨fun z => absurd rfl z, fun _ => ⟨fun z => absurd rfl z, fun _ => hq⟩⟩
  · exact ⟨fun z => absurd rfl z, fun _ => ⟨fun _ => hq, fun z => absurd z (by decide)⟩⟩
  · exact ⟨fun _ => ⟨fun z => absurd rfl z, fun _ => hq⟩, fun z => absurd z (by decide)⟩
  · exact ⟨fun _ => ⟨fun _ => hq, fun z => absurd z (by decide)⟩, fun z => absurd z (by decide)⟩
theorem s1_guestHas {h g a b : Nat} (hW : WRel V (x + 1) m) (hR : RowOk m) (hh : h < nH m) (hg : g < nG m) (ha : a < 2) (hb : b < 2) (hq : Q (f_comerHas m h g a b)) : wX1_guestHas x V (nI h) (nI g) (nI a) (nI b) Q := by
  have h8 := hR.H8; have g8 := hR.G8
  have el : V ((x + 1) + 17 + 1 + (nI g).toNatClampNeg) (nI h).toNatClampNeg = m (131 + 8 * g + h) := by rw [cl8 (by omega), cl8 (by omega), hW.love hh hg]
  unfold wX1_guestHas
  unfold f_comerHas at hq
  rw [el]
  obtain rfl | rfl : b = 0 ∨ b = 1 := by omega
  · rw [if_pos rfl] at hq
    refine ⟨fun z => absurd rfl z, fun _ => s2_isMarked hW g8 hg (p_bz ?_)⟩
    split
    · next z => rw [if_pos z] at hq; exact ⟨in8 (by omega), in8 (by omega), hq⟩
    · next z => rw [if_neg z] at hq; exact hq
  · rw [if_neg (by decide)] at hq
    obtain rfl | rfl : a = 0 ∨ a = 1 := by omega
    · exact ⟨fun _ => ⟨fun _ => hq, fun z => absurd z (by decide)⟩, fun z => absurd z (by decide)⟩
    · exact ⟨fun _ => ⟨fun z => absurd rfl z, fun _ => ⟨in8 (by omega), in8 (by omega), hq⟩⟩, fun z => absurd z (by decide)⟩
theorem s6_comerHas {h g a b : Nat} (hR : RowOk (V (t + 1))) (hh : h < 8) (hg : g < 8) (ha : a < 2) (hb : b < 2) (hq : Q (f_comerHas (V (t + 1)) h g a b)) : wX6_comerHas t V (nI h) (nI g) (nI a) (nI b) Q := by
  unfold wX6_comerHas
  unfold f_comerHas at hq
  obtain rfl | rfl : b = 0 ∨ b = 1 := by omega
  · rw [if_pos rfl] at hq
    refine ⟨fun z => absurd rfl z, fun _ => s6_ofGuest (w := 2) hg (by decide) (s6_passes (p_bz ?_))⟩
    rw [show 43 + 3 * g + 2 = 45 + 3 * g by omega]
    split
    · next z => rw [if_pos z] at hq; exact s6_lovedOf hh hg hq
    · next z => rw [if_neg z] at hq; exact hq
  · rw [if_neg (by decide)] at hq
    obtain rfl | rfl : a = 0 ∨ a = 1 := by omega
    · exact ⟨fun _ => ⟨fun z => absurd rfl z, fun _ => hq⟩, fun z => absurd z (by decide)⟩
    · exact ⟨fun _ => ⟨fun _ => s6_lovedOf hh hg hq, fun z => absurd z (by decide)⟩, fun z => absurd z (by decide)⟩
end P3
