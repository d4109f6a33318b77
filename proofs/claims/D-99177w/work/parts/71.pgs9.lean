/-! ===== PURE: how many would both rather ===== -/
/-- whether host h and guest g would both rather, as u (of hosts) and v (of guests) are put together -/
def f_pair (m u v : Nat → Int32) (h g : Nat) : Bool := !decide (u h = nI g) && (f_hr m h g (u h) && f_gr m g h (v g))
def f_rathers (m u v : Nat → Int32) : Int32 := fo (fun h n => fo (fun g n => n + (if f_pair m u v h g = true then 1 else 0)) (nG m) 0 n) (nH m) 0 0
section PG9
variable {x t : Nat} {V : Nat → Nat → Int32} {m u v : Nat → Int32} {Q : Int32 → Prop}
theorem s5_rathers (hW : WRel V (x + 1) m) (hR : RowOk m) (hu : ∀ h, h < nH m → V (x + 149 + 1) h = u h ∧ (u h = -1 ∨ ∃ g, g < nG m ∧ u h = nI g)) (hv : ∀ g, g < nG m → V (x + 149 + 2) g = v g ∧ (v g = -1 ∨ ∃ h, h < nH m ∧ v g = nI h)) (hq : Q (f_rathers m u v)) : wX5_rathers x V Q := by
  have h8 := hR.H8; have g8 := hR.G8; have hH := hR.H; have hG := hR.G
  refine fo_loop (fun n c h => wX5_rathers_4 x V Q n c (nI h)) (fun h n => fo (fun g n => n + (if f_pair m u v h g = true then 1 else 0)) (nG m) 0 n) Q (nH m) ?_ ?_ (nH m) 0 0 (Nat.zero_add _) hq
  · intro n c hP
    rw [wX5_rathers_4, hW.hosts, hH]
    exact br_t (Int32.le_refl _) hP
  · intro n c h hh hk
    rw [wX5_rathers_4, hW.hosts, hH]
    refine br_f (nI_ge hh (by omega)) ?_
    refine fo_loop (fun n2 c g => wX5_rathers_20 x V Q (fun x1 x2 => wX5_rathers_4 x V Q n x1 x2) n2 c (nI h) (nI g)) (fun g n => n + (if f_pair m u v h g = true then 1 else 0)) (fun c => wX5_rathers_4 x V Q n c (nI (h + 1))) (nG m) ?_ ?_ (nG m) 0 c (Nat.zero_add _) hk
    · intro n2 c hP
      rw [wX5_rathers_20, hW.guests, hG]
      exact br_t (Int32.le_refl _) (nm_r (nI_1 h) hP)
    · intro n2 c g hg hk2
      unfold f_pair at hk2
      rw [wX5_rathers_20, hW.guests, hG, cl8 (show h < 8 by omega), cl8 (show g < 8 by omega), (hu h hh).1, (hv g hg).1]
      refine br_f (nI_ge hg (by omega)) ⟨in8 (by omega), br_c (fun z => ?_) (fun z => ⟨in8 (by omega), s5_hostRather hW hR hh hg (hu h hh).2 ⟨fun z2 => ?_, fun z2 => ⟨in8 (by omega), s5_guestRather hW hR hh hg (hv g hg).2 ⟨fun z3 => ?_, fun z3 => ?_⟩⟩⟩⟩)⟩
      · rw [decide_eq_true z] at hk2; exact nm_e (nm_r (nI_1 g) hk2)
      · rw [decide_eq_false z, Bool.eq_false_iff.mpr (b2i_0.mp z2)] at hk2; exact nm_e (nm_r (nI_1 g) hk2)
      · rw [decide_eq_false z, Bool.eq_false_iff.mpr (b2i_0.mp z3), Bool.and_false] at hk2; exact nm_e (nm_r (nI_1 g) hk2)
      · rw [decide_eq_false z, Classical.byContradiction (fun q => z2 (b2i_f q)), Classical.byContradiction (fun q => z3 (b2i_f q))] at hk2
        exact nm_e (nm_r (nI_1 g) hk2)
theorem s6_rathers (hR : RowOk (V (t + 1))) (hu : ∀ h, h < nH (V (t + 1)) → V (t + 7) h = u h ∧ (u h = -1 ∨ ∃ g, g < nG (V (t + 1)) ∧ u h = nI g)) (hv : ∀ g, g < nG (V (t + 1)) → V (t + 8) g = v g ∧ (v g = -1 ∨ ∃ h, h < nH (V (t + 1)) ∧ v g = nI h)) (hq : Q (f_rathers (V (t + 1)) u v)) : wX6_rathers t V Q := by
  have h8 := hR.H8; have g8 := hR.G8; have hH := hR.H; have hG := hR.G
  refine fo_loop (fun n c h => wX6_rathers_4 t V Q n c (nI h)) (fun h n => fo (fun g n => n + (if f_pair (V (t + 1)) u v h g = true then 1 else 0)) (nG (V (t + 1))) 0 n) Q (nH (V (t + 1))) ?_ ?_ (nH (V (t + 1))) 0 0 (Nat.zero_add _) hq
  · intro n c hP
    rw [wX6_rathers_4, hH]
    exact br_t (Int32.le_refl _) hP
  · intro n c h hh hk
    rw [wX6_rathers_4, hH]
    refine br_f (nI_ge hh (by omega)) ?_
    refine fo_loop (fun n2 c g => wX6_rathers_16 t V Q (fun x1 x2 => wX6_rathers_4 t V Q n x1 x2) n2 c (nI h) (nI g)) (fun g n => n + (if f_pair (V (t + 1)) u v h g = true then 1 else 0)) (fun c => wX6_rathers_4 t V Q n c (nI (h + 1))) (nG (V (t + 1))) ?_ ?_ (nG (V (t + 1))) 0 c (Nat.zero_add _) hk
    · intro n2 c hP
      rw [wX6_rathers_16, hG]
      exact br_t (Int32.le_refl _) (nm_r (nI_1 h) hP)
    · intro n2 c g hg hk2
      unfold f_pair at hk2
      have hu8 : u h = -1 ∨ ∃ k, k < 8 ∧ u h = nI k := (hu h hh).2.imp id (fun ⟨k, h1, h2⟩ => ⟨k, by omega, h2⟩)
      have hv8 : v g = -1 ∨ ∃ k, k < 8 ∧ v g = nI k := (hv g hg).2.imp id (fun ⟨k, h1, h2⟩ => ⟨k, by omega, h2⟩)
      rw [wX6_rathers_16, hG, cl8 (show h < 8 by omega), cl8 (show g < 8 by omega), (hu h hh).1, (hv g hg).1]
      refine br_f (nI_ge hg (by omega)) ⟨in8 (by omega), br_c (fun z => ?_) (fun z => s6_mayMeet (by omega) (by omega) (p_bz ?_))⟩
      · rw [decide_eq_true z] at hk2; exact nm_e (nm_r (nI_1 g) hk2)
      · split
        · next hm =>
          refine ⟨in8 (by omega), s6_hostRather (by omega) (by omega) hm hu8 ⟨fun z2 => ?_, fun z2 => ⟨in8 (by omega), s6_guestRather (by omega) (by omega) hm hv8 ⟨fun z3 => ?_, fun z3 => ?_⟩⟩⟩⟩
          · rw [decide_eq_false z, Bool.eq_false_iff.mpr (b2i_0.mp z2)] at hk2; exact nm_e (nm_r (nI_1 g) hk2)
          · rw [decide_eq_false z, Bool.eq_false_iff.mpr (b2i_0.mp z3), Bool.and_false] at hk2; exact nm_e (nm_r (nI_1 g) hk2)
          · rw [decide_eq_false z, Classical.byContradiction (fun q => z2 (b2i_f q)), Classical.byContradiction (fun q => z3 (b2i_f q))] at hk2
            exact nm_e (nm_r (nI_1 g) hk2)
        · next hm =>
          have : f_hr (V (t + 1)) h g (u h) = false := by
            unfold f_hr
            rw [decide_eq_false hm, Bool.false_and]
          rw [decide_eq_false z, this] at hk2
          exact nm_e (nm_r (nI_1 g) hk2)
end PG9
