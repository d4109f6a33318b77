/-! ===== PURE: the twin's askers ===== -/
section PG5
variable {t : Nat} {V : Nat → Nat → Int32} {Q : Int32 → Prop} {Q0 : (Nat → Nat → Int32) → Prop}
theorem s6_wantsH {a N : Nat} (hR : RowOk (V (t + 1))) (ha : a < nH (V (t + 1))) (hN : N < 256) (hv : V (t + 9) a = nI N) (hq : Q (gsBest (f_hr (V (t + 1))) (nG (V (t + 1))) a N)) : wX6_wants t V (nI a) (nI (nG (V (t + 1)))) 1 Q := by
  have h8 := hR.H8; have g8 := hR.G8
  refine fo_loopI (fun n f b => wX6_wants_6 t V (nI a) (nI (nG (V (t + 1)))) 1 Q n f (nI b)) (fun b f => if ¬ inS N b ∧ f_hr (V (t + 1)) a b f = true then nI b else f) Q (fun i f => f = -1 ∨ ∃ b, b < i ∧ f = nI b) (nG (V (t + 1))) ?_ (fun j f _ hf => gsBest_step j f hf) ?_ (nG (V (t + 1))) 0 (-1) (Nat.zero_add _) (Or.inl rfl) hq
  · intro n f hP
    rw [wX6_wants_6]
    exact br_t (Int32.le_refl _) hP
  · intro n f b hb hf hk
    have o3 := (set_or ⟨N, hN⟩ ⟨b, by omega⟩).2.2
    simp only at o3
    have no : ¬ (¬ inS N b ∧ f_hr (V (t + 1)) a b f = true) → wX6_wants_57 t V (nI a) (nI (nG (V (t + 1)))) 1 Q (fun x4 x5 => wX6_wants_6 t V (nI a) (nI (nG (V (t + 1)))) 1 Q n x4 x5) f (nI b) := by
      intro c
      rw [if_neg c] at hk
      exact br_t rfl (nm_r (nI_1 b) hk)
    rw [wX6_wants_6, cl8 (show a < 8 by omega), hv]
    refine br_f (nI_ge hb (by omega)) ⟨in8 (by omega), s6_isOf (p_bn ?_)⟩
    split
    · next z => exact no (fun q => q.1 (o3.mp z))
    · next z =>
      refine ⟨fun q => absurd q (by decide), fun _ => s6_mayMeet (by omega) (by omega) (p_bz ?_)⟩
      split
      · next c =>
        refine ⟨fun q => absurd q (by decide), fun _ => ⟨fun q => absurd q (by decide), fun _ => s6_hostRather (by omega) (by omega) c (hf.imp id (fun ⟨k, h1, h2⟩ => ⟨k, by omega, h2⟩)) (p_bz ?_)⟩⟩
        split
        · next z2 =>
          rw [if_pos ⟨fun q => z (o3.mpr q), z2⟩] at hk
          exact nm_r (nI_1 b) hk
        · next z2 =>
          rw [if_neg (fun q => z2 q.2)] at hk
          exact nm_r (nI_1 b) hk
      · next c =>
        refine no (fun q => ?_)
        have q2 := q.2
        unfold f_hr at q2
        rw [decide_eq_false c, Bool.false_and] at q2
        exact absurd q2 (by decide)
theorem s6_wantsG {a N : Nat} (hR : RowOk (V (t + 1))) (ha : a < nG (V (t + 1))) (hN : N < 256) (hv : V (t + 9) a = nI N) (hq : Q (gsBest (f_gr (V (t + 1))) (nH (V (t + 1))) a N)) : wX6_wants t V (nI a) (nI (nH (V (t + 1)))) 0 Q := by
  have h8 := hR.H8; have g8 := hR.G8
  refine fo_loopI (fun n f b => wX6_wants_6 t V (nI a) (nI (nH (V (t + 1)))) 0 Q n f (nI b)) (fun b f => if ¬ inS N b ∧ f_gr (V (t + 1)) a b f = true then nI b else f) Q (fun i f => f = -1 ∨ ∃ b, b < i ∧ f = nI b) (nH (V (t + 1))) ?_ (fun j f _ hf => gsBest_step j f hf) ?_ (nH (V (t + 1))) 0 (-1) (Nat.zero_add _) (Or.inl rfl) hq
  · intro n f hP
    rw [wX6_wants_6]
    exact br_t (Int32.le_refl _) hP
  · intro n f b hb hf hk
    have o3 := (set_or ⟨N, hN⟩ ⟨b, by omega⟩).2.2
    simp only at o3
    have no : ¬ (¬ inS N b ∧ f_gr (V (t + 1)) a b f = true) → wX6_wants_57 t V (nI a) (nI (nH (V (t + 1)))) 0 Q (fun x4 x5 => wX6_wants_6 t V (nI a) (nI (nH (V (t + 1)))) 0 Q n x4 x5) f (nI b) := by
      intro c
      rw [if_neg c] at hk
      exact br_t rfl (nm_r (nI_1 b) hk)
    rw [wX6_wants_6, cl8 (show a < 8 by omega), hv]
    refine br_f (nI_ge hb (by omega)) ⟨in8 (by omega), s6_isOf (p_bn ?_)⟩
    split
    · next z => exact no (fun q => q.1 (o3.mp z))
    · next z =>
      refine ⟨fun _ => s6_mayMeet (by omega) (by omega) (p_bz ?_), fun q => absurd rfl q⟩
      split
      · next c =>
        refine ⟨fun q => absurd q (by decide), fun _ => ⟨fun _ => s6_guestRather (by omega) (by omega) c (hf.imp id (fun ⟨k, h1, h2⟩ => ⟨k, by omega, h2⟩)) (p_bz ?_), fun q => absurd rfl q⟩⟩
        split
        · next z2 =>
          rw [if_pos ⟨fun q => z (o3.mpr q), z2⟩] at hk
          exact nm_r (nI_1 b) hk
        · next z2 =>
          rw [if_neg (fun q => z2 q.2)] at hk
          exact nm_r (nI_1 b) hk
      · next c =>
        refine no (fun q => ?_)
        have q2 := q.2
        unfold f_gr at q2
        rw [decide_eq_false c, Bool.false_and] at q2
        exact absurd q2 (by decide)
end PG5
