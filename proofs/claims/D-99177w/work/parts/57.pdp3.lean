/-! ===== PURE: afternoon and lend, the answers ===== -/
def o_afternoon (m : Nat → Int32) (q h : Int32) : Ot := if isQuarterP q then (if h = -1 then .inl (nI (dp (brA m q) (nH m) (nG m) (nH m) 0)) else if isHostP m h then .inl (dpWith (brA m q) (nH m) (nG m) h.toNatClampNeg) else .inr (xIo, 1)) else .inr (xIo, 1)
def o_lend (m : Nat → Int32) (g : Int32) : Ot := if g = -1 then .inl (nI (dp (brL m) (nG m) (nH m) (nG m) 0)) else if isGuestP m g then .inl (dpWith (brL m) (nG m) (nH m) g.toNatClampNeg) else .inr (xIo, 1)
/-- the twin's outcome, when row r of its scratch may change -/
def oTF (o : Ot) (t : Nat) (V : Nat → Nat → Int32) (r : Nat) (Q : Int32 → (Nat → Nat → Int32) → Prop) : Prop := match o with | .inl v => ∀ V', (∀ a, a ≠ r → V' a = vset V t 0 0 a) → Q v V' | .inr e => ∀ v, Q v (vset V t 0 e.2)
section PD3
variable {x t : Nat} {V : Nat → Nat → Int32} {m T : Nat → Int32} {Q : Int32 → Prop} {Q0 : (Nat → Nat → Int32) → Prop} {Q2 : Int32 → (Nat → Nat → Int32) → Prop} {X : String → (Nat → Nat → Int32) → Prop} {q h g : Int32}
theorem orE' {c : Prop} [Decidable c] {W : Prop → (String → Prop) → Prop} {s : String} {P : Prop} {X : String → Prop} (hW : ∀ P X, (if c then P else X s) → W P X) (h : if c then P else X s) : W P (fun _ => False) ∨ W False X := orE hW h
theorem s1_afternoon (hW : WRel V (x + 1) m) (hR : RowOk m) (hq : ∀ V', (∀ a, a ≠ x + 156 → V' a = V a) → oC (o_afternoon m q h) (fun r => Q2 r V') (fun e => X e V')) : wX1_afternoon x V q h Q2 X := by
  have h8 := hR.H8; have g8 := hR.G8
  have hq0 := hq V (fun _ _ => rfl)
  have w0 : ∀ V1 : Nat → Nat → Int32, (∀ a, a ≠ x + 156 → V1 a = V a) → WRel V1 (x + 1) m := fun V1 f => hW.frame (fun a h1 h2 => f a (by omega)) h8 g8
  refine e1_quarterAt (X := fun E => X E V) ?_
  unfold o_afternoon at hq hq0
  split
  · next c =>
    rw [if_pos c] at hq hq0
    refine br_c (fun z => ?_) (fun z => ?_)
    · rw [if_pos z] at hq
      subst z
      refine s1_laysAfternoon hW hR (fun V' f tab => ⟨fun z => absurd rfl z, fun _ => ?_⟩)
      have := tab 0 (Nat.zero_le _) 0 (by decide)
      rw [show V' (x + 156) 0 = _ from this]
      exact hq V' f
    · rw [if_neg z] at hq hq0
      refine e1_hostAt (X := fun E => X E V) hW ?_
      split
      · next d =>
        rw [if_pos d] at hq
        obtain ⟨i, hi, hi8, rfl⟩ := hR.host d
        rw [cl8 hi8] at hq
        exact s1_laysAfternoon hW hR (fun V' f tab => ⟨fun _ => s1_afternoon_walk (K := fun _ => True) (w0 V' f) hR hi tab (hq V' f), fun z2 => absurd z2 z⟩)
      · next d =>
        rw [if_neg d] at hq0
        exact hq0
  · next c =>
    rw [if_neg c] at hq0
    exact hq0
theorem s1_lend (hW : WRel V (x + 1) m) (hR : RowOk m) (hq : ∀ V', (∀ a, a ≠ x + 159 → V' a = V a) → oC (o_lend m g) (fun r => Q2 r V') (fun e => X e V')) : wX1_lend x V g Q2 X := by
  have h8 := hR.H8; have g8 := hR.G8
  have hq0 := hq V (fun _ _ => rfl)
  have w0 : ∀ V1 : Nat → Nat → Int32, (∀ a, a ≠ x + 159 → V1 a = V a) → WRel V1 (x + 1) m := fun V1 f => hW.frame (fun a h1 h2 => f a (by omega)) h8 g8
  unfold o_lend at hq hq0
  refine br_c (fun z => ?_) (fun z => ?_)
  · rw [if_pos z] at hq
    subst z
    refine s1_laysLent hW hR (fun V' f tab => ⟨fun z => absurd rfl z, fun _ => ?_⟩)
    have := tab 0 (Nat.zero_le _) 0 (by decide)
    rw [show V' (x + 159) 0 = _ from this]
    exact hq V' f
  · rw [if_neg z] at hq hq0
    refine e1_guestAt (X := fun E => X E V) hW ?_
    split
    · next d =>
      rw [if_pos d] at hq
      obtain ⟨i, hi, hi8, rfl⟩ := hR.guest d
      rw [cl8 hi8] at hq
      exact s1_laysLent hW hR (fun V' f tab => ⟨fun _ => s1_lend_walk (K := fun _ => True) (w0 V' f) hR hi tab (hq V' f), fun z2 => absurd z2 z⟩)
    · next d =>
      rw [if_neg d] at hq0
      exact hq0
theorem s6_bringsA {a b : Nat} (ha : a < 8) (hb : b < 8) (hne : ¬ q = -1) (hq : Q (eno (brA (V (t + 1)) q a b))) : wX6_brings t V (nI a) (nI b) q 0 Q := by
  unfold brA at hq
  refine ⟨fun z => absurd z hne, fun _ => s6_canMeet ha hb (p_bz ?_)⟩
  split
  · next z => rw [if_pos z] at hq; exact hq
  · next z => rw [if_neg z] at hq; exact hq
theorem of_255 : ∀ b : Fin 8, isOf (255 : Int32) (nI b.val) := by decide
theorem s6_bringsL {a b : Nat} (hR : RowOk (V (t + 1))) (ha : a < 8) (hb : b < 8) (hq : Q (eno (brL (V (t + 1)) a b))) : wX6_brings t V (nI a) (nI b) (-1) 255 Q := by
  unfold brL at hq
  refine ⟨fun _ => s6_isOf (p_bz ?_), fun z => absurd rfl z⟩
  rw [if_pos (of_255 ⟨b, hb⟩)]
  have bad : ¬ ((a < 8 ∧ b < 8) ∧ f_sees (V (t + 1)) b = 0 ∧ f_busy (V (t + 1)) (nI a) = 0 ∧ f_may (V (t + 1)) b a) → wX6_brings_59 t V (nI a) (nI b) (-1) 255 Q := by
    intro c
    rw [if_neg c] at hq
    exact br_t rfl hq
  refine s6_seesOf hb ⟨fun z1 => bad (fun q => z1 q.2.1), fun z1 => s6_busyOf hR ⟨fun z2 => bad (fun q => z2 q.2.2.1), fun z2 => s6_mayMeet hb ha (p_bz ?_)⟩⟩
  split
  · next z3 =>
    rw [if_pos ⟨⟨ha, hb⟩, z1, z2, z3⟩] at hq
    obtain ⟨r, hr, er⟩ := like_9 hR ha hb
    refine br_f (by decide) (s6_rankOf hb ha ?_)
    rw [er, nI_clamp (by omega)] at hq
    rw [er]
    exact hq
  · next z3 => exact bad (fun q => z3 q.2.2.2)
theorem s6_afternoon (hR : RowOk (V (t + 1))) (hq : oTF (o_afternoon (V (t + 1)) q h) t V (t + 11) Q2) : wX6_afternoon t V q h Q2 := by
  unfold o_afternoon at hq
  have e1 : vset V t 0 0 (t + 1) = V (t + 1) := vt1
  have bad : ¬ (isQuarterP q ∧ (h = -1 ∨ isHostP (V (t + 1)) h)) → wX6_afternoon_21 t q h Q2 V := by
    intro c
    refine t_thr ?_
    rw [if_neg (by decide)]
    by_cases d : isQuarterP q
    · rw [if_pos d, if_neg (fun z => c ⟨d, Or.inl z⟩), if_neg (fun z => c ⟨d, Or.inr z⟩)] at hq
      exact hq _
    · rw [if_neg d] at hq
      exact hq _
  refine s6_isQuarter (p_bz ?_)
  split
  · next c =>
    rw [if_pos c] at hq
    have hne : ¬ q = -1 := by
      obtain ⟨k, hk, rfl⟩ := quarter_nat c
      exact nI_nm1 (by omega)
    have go : ∀ (v : Int32), ((h = -1 ∧ v = nI (dp (brA (V (t + 1)) q) (nH (V (t + 1))) (nG (V (t + 1))) (nH (V (t + 1))) 0)) ∨ (isHostP (V (t + 1)) h ∧ ¬ h = -1 ∧ v = dpWith (brA (V (t + 1)) q) (nH (V (t + 1))) (nG (V (t + 1))) h.toNatClampNeg)) → (∀ V', (∀ a, a ≠ t + 11 → V' a = vset V t 0 0 a) → Q2 v V') → wX6_afternoon_25 t q h Q2 V := by
      intro v hv hqv
      refine t_thr ?_
      rw [if_pos (by decide)]
      rw [← e1] at hv hR
      generalize vset V t 0 0 = V1 at *
      have hH := hR.H; have h8 := hR.H8; have hG := hR.G; have g8 := hR.G8
      rw [hH, hG]
      refine s6_fills h8 g8 (brA_9 q) (fun V2 f a b ha hb Q hQ => s6_bringsA (by omega) (by omega) hne (by rw [f (t + 1) (by omega)]; exact hQ)) (fun V2 f tab => ?_)
      have f1 := f (t + 1) (by omega)
      refine ⟨fun z => ?_, fun z => ?_⟩
      · obtain ⟨hh, -, ev⟩ := hv.resolve_left (fun q => z q.1)
        obtain ⟨i, hi, hi8, rfl⟩ := hR.host hh
        rw [f1, hG]
        rw [cl8 hi8] at ev
        exact s6_firstOf hi h8 g8 (brA_9 q) (fun a b ha hb Q hQ => s6_bringsA (by omega) (by omega) hne (by rw [f1]; exact hQ)) tab (by rw [← ev]; exact hqv V2 f)
      · obtain ⟨-, ev⟩ := hv.resolve_right (fun q => q.2.1 z)
        have := tab 0 (Nat.zero_le _) 0 (by decide)
        rw [show V2 (t + 11) 0 = _ from this, Nat.sub_zero, ← ev]
        exact hqv V2 f
    refine br_c (fun z => ?_) (fun z => s6_isHost (p_bn ?_))
    · rw [if_pos z] at hq
      exact go _ (Or.inl ⟨z, rfl⟩) hq
    · rw [if_neg z] at hq
      split
      · next d =>
        rw [if_pos d] at hq
        exact go _ (Or.inr ⟨d, z, rfl⟩) hq
      · next d => exact bad (fun q => q.2.elim z d)
  · next c => exact bad (fun z => c z.1)
theorem s6_lend (hR : RowOk (V (t + 1))) (hq : oTF (o_lend (V (t + 1)) g) t V (t + 11) Q2) : wX6_lend t V g Q2 := by
  unfold o_lend at hq
  have e1 : vset V t 0 0 (t + 1) = V (t + 1) := vt1
  have go : ∀ (v : Int32), ((g = -1 ∧ v = nI (dp (brL (V (t + 1))) (nG (V (t + 1))) (nH (V (t + 1))) (nG (V (t + 1))) 0)) ∨ (isGuestP (V (t + 1)) g ∧ ¬ g = -1 ∧ v = dpWith (brL (V (t + 1))) (nG (V (t + 1))) (nH (V (t + 1))) g.toNatClampNeg)) → (∀ V', (∀ a, a ≠ t + 11 → V' a = vset V t 0 0 a) → Q2 v V') → wX6_lend_18 t g Q2 V := by
    intro v hv hqv
    refine t_thr ?_
    rw [if_pos (by decide)]
    rw [← e1] at hv hR
    generalize vset V t 0 0 = V1 at *
    have hH := hR.H; have h8 := hR.H8; have hG := hR.G; have g8 := hR.G8
    rw [hH, hG]
    refine s6_fills g8 h8 (brL_9 hR) (fun V2 f a b ha hb Q hQ => s6_bringsL (by rw [f (t + 1) (by omega)]; exact hR) (by omega) (by omega) (by rw [f (t + 1) (by omega)]; exact hQ)) (fun V2 f tab => ?_)
    have f1 := f (t + 1) (by omega)
    refine ⟨fun z => ?_, fun z => ?_⟩
    · obtain ⟨hh, -, ev⟩ := hv.resolve_left (fun q => z q.1)
      obtain ⟨i, hi, hi8, rfl⟩ := hR.guest hh
      rw [f1, hH]
      rw [cl8 hi8] at ev
      exact s6_firstOf hi g8 h8 (brL_9 hR) (fun a b ha hb Q hQ => s6_bringsL (by rw [f1]; exact hR) (by omega) (by omega) (by rw [f1]; exact hQ)) tab (by rw [← ev]; exact hqv V2 f)
    · obtain ⟨-, ev⟩ := hv.resolve_right (fun q => q.2.1 z)
      have := tab 0 (Nat.zero_le _) 0 (by decide)
      rw [show V2 (t + 11) 0 = _ from this, Nat.sub_zero, ← ev]
      exact hqv V2 f
  refine br_c (fun z => ?_) (fun z => s6_isGuest (p_bn ?_))
  · rw [if_pos z] at hq
    exact go _ (Or.inl ⟨z, rfl⟩) hq
  · rw [if_neg z] at hq
    split
    · next d =>
      rw [if_pos d] at hq
      exact go _ (Or.inr ⟨d, z, rfl⟩) hq
    · next d =>
      rw [if_neg d] at hq
      exact t_thr (by rw [if_neg (by decide)]; exact hq _)
end PD3
