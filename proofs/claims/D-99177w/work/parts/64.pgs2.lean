/-! ===== PURE: who would rather ===== -/
/-- by what u says, the less number first: rather b than f -/
def f_core (u : Nat → Int32) (b : Nat) (f : Int32) : Bool := if f = -1 then true else if u f.toNatClampNeg < u b then true else if u b = u f.toNatClampNeg then !decide (f ≤ nI b) else false
def f_hr (m : Nat → Int32) (h g : Nat) (f : Int32) : Bool := decide (f_may m h g) && f_core (fun k => m (67 + 8 * h + k)) g f
def f_gr (m : Nat → Int32) (g h : Nat) (f : Int32) : Bool := decide (f_may m h g) && f_core (fun k => m (131 + 8 * g + k)) h f
section PG2
variable {x t : Nat} {V : Nat → Nat → Int32} {m : Nat → Int32} {Q : Int32 → Prop} {Q2 : Int32 → (Nat → Nat → Int32) → Prop} {h g : Nat} {f : Int32}
theorem core_case {u : Nat → Int32} {b k : Nat} (hk : k < 2 ^ 31) (hq : Q (b2i (f_core u b (nI k) = true))) : (u k < u b → Q 1) ∧ (¬ u k < u b → (¬ u b = u k → Q 0) ∧ (u b = u k → (nI k ≤ nI b → Q 0) ∧ (¬ nI k ≤ nI b → Q 1))) := by
  unfold f_core at hq
  rw [if_neg (nI_nm1 hk), nI_clamp hk] at hq
  refine ⟨fun z => ?_, fun z => ⟨fun z2 => ?_, fun z2 => ⟨fun z3 => ?_, fun z3 => ?_⟩⟩⟩
  · rw [if_pos z] at hq; exact hq
  · rw [if_neg z, if_neg z2] at hq; exact hq
  · rw [if_neg z, if_pos z2, decide_eq_true z3] at hq; exact hq
  · rw [if_neg z, if_pos z2, decide_eq_false z3] at hq; exact hq
theorem s5_hostRather (hW : WRel V (x + 1) m) (hR : RowOk m) (hh : h < nH m) (hg : g < nG m) (hf : f = -1 ∨ ∃ k, k < nG m ∧ f = nI k) (hq : Q (b2i (f_hr m h g f = true))) : wX5_hostRather x V (nI h) (nI g) f Q := by
  have h8 := hR.H8; have g8 := hR.G8
  unfold f_hr at hq
  refine s2_both hW h8 g8 hh hg (p_bn ?_)
  split
  · next c =>
    rw [decide_eq_true c, Bool.true_and] at hq
    have ih := in8 (show h < 8 by omega)
    have ig := in8 (show g < 8 by omega)
    rcases hf with rfl | ⟨k, hk, rfl⟩
    · exact br_t rfl hq
    · have ik := in8 (show k < 8 by omega)
      have cc := core_case (by omega) hq
      rw [cl8 (show h < 8 by omega), cl8 (show g < 8 by omega), cl8 (show k < 8 by omega), hW.like hh hg, hW.like hh hk]
      exact br_f (nI_nm1 (by omega)) ⟨ih, ig, ih, ik, cc.1, fun z => ⟨ih, ig, ih, ik, cc.2 z⟩⟩
  · next c =>
    rw [decide_eq_false c, Bool.false_and] at hq
    exact hq
theorem s5_guestRather (hW : WRel V (x + 1) m) (hR : RowOk m) (hh : h < nH m) (hg : g < nG m) (hf : f = -1 ∨ ∃ k, k < nH m ∧ f = nI k) (hq : Q (b2i (f_gr m g h f = true))) : wX5_guestRather x V (nI g) (nI h) f Q := by
  have h8 := hR.H8; have g8 := hR.G8
  unfold f_gr at hq
  refine s2_both hW h8 g8 hh hg (p_bn ?_)
  split
  · next c =>
    rw [decide_eq_true c, Bool.true_and] at hq
    have ih := in8 (show h < 8 by omega)
    have ig := in8 (show g < 8 by omega)
    rcases hf with rfl | ⟨k, hk, rfl⟩
    · exact br_t rfl hq
    · have ik := in8 (show k < 8 by omega)
      have cc := core_case (by omega) hq
      rw [cl8 (show h < 8 by omega), cl8 (show g < 8 by omega), cl8 (show k < 8 by omega), hW.love hh hg, hW.love hk hg]
      exact br_f (nI_nm1 (by omega)) ⟨ig, ih, ig, ik, cc.1, fun z => ⟨ig, ih, ig, ik, cc.2 z⟩⟩
  · next c =>
    rw [decide_eq_false c, Bool.false_and] at hq
    exact hq
theorem may_ne {m : Nat → Int32} (hm : f_may m h g) : ¬ m (67 + 8 * h + g) = 0 ∧ ¬ m (131 + 8 * g + h) = 0 := ⟨fun z => hm.1 (by rw [z]; exact Int32.le_refl _), fun z => hm.2 (by rw [z]; exact Int32.le_refl _)⟩
theorem s6_hostRather (hh : h < 8) (hg : g < 8) (hm : f_may (V (t + 1)) h g) (hf : f = -1 ∨ ∃ k, k < 8 ∧ f = nI k) (hq : Q (b2i (f_hr (V (t + 1)) h g f = true))) : wX6_hostRather t V (nI h) (nI g) f Q := by
  unfold f_hr at hq
  rw [decide_eq_true hm, Bool.true_and] at hq
  refine s6_rankOf hh hg ⟨fun _ => ⟨fun z => ?_, fun z => ?_⟩, fun z => absurd z (may_ne hm).1⟩
  · obtain ⟨k, hk, rfl⟩ := hf.resolve_left z
    have cc := core_case (by omega) hq
    exact s6_rankOf hh hg (s6_rankOf hh hk ⟨cc.1, fun z2 => s6_rankOf hh hg (s6_rankOf hh hk (cc.2 z2))⟩)
  · rw [z] at hq; exact hq
theorem s6_guestRather (hh : h < 8) (hg : g < 8) (hm : f_may (V (t + 1)) h g) (hf : f = -1 ∨ ∃ k, k < 8 ∧ f = nI k) (hq : Q (b2i (f_gr (V (t + 1)) g h f = true))) : wX6_guestRather t V (nI g) (nI h) f Q := by
  unfold f_gr at hq
  rw [decide_eq_true hm, Bool.true_and] at hq
  refine s6_lovedOf hh hg ⟨fun _ => ⟨fun z => ?_, fun z => ?_⟩, fun z => absurd z (may_ne hm).2⟩
  · obtain ⟨k, hk, rfl⟩ := hf.resolve_left z
    have cc := core_case (by omega) hq
    exact s6_lovedOf hh hg (s6_lovedOf hk hg ⟨cc.1, fun z2 => s6_lovedOf hh hg (s6_lovedOf hk hg (cc.2 z2))⟩)
  · rw [z] at hq; exact hq
theorem gsBest_step {r1 : Nat → Nat → Int32 → Bool} {a N : Nat} : ∀ (j : Nat) (f : Int32), (f = -1 ∨ ∃ b, b < j ∧ f = nI b) → ((if ¬ inS N j ∧ r1 a j f = true then nI j else f) = -1 ∨ ∃ b, b < j + 1 ∧ (if ¬ inS N j ∧ r1 a j f = true then nI j else f) = nI b) := by
  intro j f hf
  split
  · exact Or.inr ⟨j, by omega, rfl⟩
  · exact hf.imp id (fun ⟨b, h1, h2⟩ => ⟨b, by omega, h2⟩)
theorem s5_bestGuest {N : Nat} (hW : WRel V (x + 1) m) (hR : RowOk m) (hh : h < nH m) (hN : N < 256) (hq : Q (gsBest (f_hr m) (nG m) h N)) : wX5_bestGuest x V (nI h) (nI N) Q := by
  have h8 := hR.H8; have g8 := hR.G8; have hG := hR.G
  refine fo_loopI (fun n f b => wX5_bestGuest_5 x V (nI h) (nI N) Q n f (nI b)) (fun b f => if ¬ inS N b ∧ f_hr m h b f = true then nI b else f) Q (fun i f => f = -1 ∨ ∃ b, b < i ∧ f = nI b) (nG m) ?_ (fun j f _ hf => gsBest_step j f hf) ?_ (nG m) 0 (-1) (Nat.zero_add _) (Or.inl rfl) hq
  · intro n f hP
    rw [wX5_bestGuest_5, hW.guests, hG]
    exact br_t (Int32.le_refl _) hP
  · intro n f b hb hf hk
    have o3 := (set_or ⟨N, hN⟩ ⟨b, by omega⟩).2.2
    simp only at o3
    rw [wX5_bestGuest_5, hW.guests, hG]
    refine br_f (nI_ge hb (by omega)) (s1_has (p_bn ?_))
    split
    · next z =>
      rw [if_neg (fun q => q.1 (o3.mp z))] at hk
      exact nm_r (nI_1 b) hk
    · next z =>
      refine s5_hostRather hW hR hh hb (hf.imp id (fun ⟨k, h1, h2⟩ => ⟨k, by omega, h2⟩)) (p_bz ?_)
      split
      · next z2 =>
        rw [if_pos ⟨fun q => z (o3.mpr q), z2⟩] at hk
        exact nm_r (nI_1 b) hk
      · next z2 =>
        rw [if_neg (fun q => z2 q.2)] at hk
        exact nm_r (nI_1 b) hk
theorem s5_bestHost {N : Nat} (hW : WRel V (x + 1) m) (hR : RowOk m) (hg : g < nG m) (hN : N < 256) (hq : Q (gsBest (f_gr m) (nH m) g N)) : wX5_bestHost x V (nI g) (nI N) Q := by
  have h8 := hR.H8; have g8 := hR.G8; have hH := hR.H
  refine fo_loopI (fun n f b => wX5_bestHost_5 x V (nI g) (nI N) Q n f (nI b)) (fun b f => if ¬ inS N b ∧ f_gr m g b f = true then nI b else f) Q (fun i f => f = -1 ∨ ∃ b, b < i ∧ f = nI b) (nH m) ?_ (fun j f _ hf => gsBest_step j f hf) ?_ (nH m) 0 (-1) (Nat.zero_add _) (Or.inl rfl) hq
  · intro n f hP
    rw [wX5_bestHost_5, hW.hosts, hH]
    exact br_t (Int32.le_refl _) hP
  · intro n f b hb hf hk
    have o3 := (set_or ⟨N, hN⟩ ⟨b, by omega⟩).2.2
    simp only at o3
    rw [wX5_bestHost_5, hW.hosts, hH]
    refine br_f (nI_ge hb (by omega)) (s1_has (p_bn ?_))
    split
    · next z =>
      rw [if_neg (fun q => q.1 (o3.mp z))] at hk
      exact nm_r (nI_1 b) hk
    · next z =>
      refine s5_guestRather hW hR hb hg (hf.imp id (fun ⟨k, h1, h2⟩ => ⟨k, by omega, h2⟩)) (p_bz ?_)
      split
      · next z2 =>
        rw [if_pos ⟨fun q => z (o3.mpr q), z2⟩] at hk
        exact nm_r (nI_1 b) hk
      · next z2 =>
        rw [if_neg (fun q => z2 q.2)] at hk
        exact nm_r (nI_1 b) hk
end PG2
