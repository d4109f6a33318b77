/-! ===== PURE: rows of guests: what the component lays ===== -/
def f_st (m : Nat → Int32) (g : Nat) : Nat := (m (43 + 3 * g)).toNatClampNeg
theorem stay_r {m : Nat → Int32} (hR : RowOk m) {g : Nat} (hg : g < nG m) : 1 ≤ f_st m g ∧ f_st m g ≤ 4 ∧ m (43 + 3 * g) = nI (f_st m g) := by
  obtain ⟨r, h1, h2, e⟩ := hR.2.2.2.2.2.2.2.2.1 g hg
  unfold f_st
  rw [e, nI_clamp (by omega)]
  exact ⟨h1, h2, rfl⟩
def f_fits (m : Nat → Int32) (h g q : Nat) : Bool := decide (f_may m h g) && (decide (q + f_st m g ≤ 8) && allB (fun k => decide (isOf (m (12 + 4 * h) &&& m (44 + 3 * g)) (nI k))) (f_st m g) q)
def ovF (p : Nat → Bool) (st : Nat) : Nat → Nat → Nat
  | 0, _ => 1000000
  | k + 1, i => if p i = true then i + st else ovF p st k (i + 1)
def f_over (m : Nat → Int32) (h g q : Nat) : Nat := ovF (f_fits m h g) (f_st m g) (8 - q) q
/-- of a set: over, if all of it less one is as D says -/
def f_overOf (m : Nat → Int32) (h : Nat) (D : Nat → Nat) (S : Nat) : Nat := fo (fun g n => if inS S g ∧ D (S - 2 ^ g) < 1000000 then (if f_over m h g (D (S - 2 ^ g)) < n then f_over m h g (D (S - 2 ^ g)) else n) else n) (nG m) 0 (if S = 0 then 0 else 1000000)
/-- the table once k sets are laid -/
def ovN (m : Nat → Int32) (h : Nat) : Nat → Nat → Nat
  | 0, _ => 0
  | k + 1, S => if S = k then f_overOf m h (ovN m h k) k else ovN m h k S
def ov (m : Nat → Int32) (h S : Nat) : Nat := ovN m h (S + 1) S
theorem ovN_ov {m : Nat → Int32} {h : Nat} : ∀ {k S : Nat}, S < k → ovN m h k S = ov m h S := by
  intro k
  induction k with
  | zero => intro S hS; omega
  | succ k ih =>
    intro S hS
    by_cases c : S = k
    · subst c; rfl
    · exact (if_neg c).trans (ih (by omega))
theorem set_less : ∀ (S : Fin 256) (g : Fin 8), inS S.val g.val → nI S.val &&& (((1 : Int32) <<< (nI g.val &&& 31)) ^^^ (-1 : Int32)) = nI (S.val - 2 ^ g.val) ∧ S.val - 2 ^ g.val < S.val := by decide +kernel
theorem fits_8 {m : Nat → Int32} {h g q : Nat} (hf : f_fits m h g q = true) : q + f_st m g ≤ 8 := by
  unfold f_fits at hf
  simp only [Bool.and_eq_true, decide_eq_true_eq] at hf
  exact hf.2.1
theorem over_le {m : Nat → Int32} {h g : Nat} : ∀ k i, ovF (f_fits m h g) (f_st m g) k i ≤ 8 ∨ ovF (f_fits m h g) (f_st m g) k i = 1000000 := by
  intro k
  induction k with
  | zero => intro i; exact Or.inr rfl
  | succ k ih =>
    intro i
    by_cases c : f_fits m h g i = true
    · exact Or.inl (Nat.le_trans (Nat.le_of_eq (if_pos c)) (fits_8 c))
    · rw [show ovF (f_fits m h g) (f_st m g) (k + 1) i = ovF (f_fits m h g) (f_st m g) k (i + 1) from if_neg c]
      exact ih (i + 1)
theorem overOf_le {m : Nat → Int32} {h : Nat} {D : Nat → Nat} {S : Nat} : f_overOf m h D S ≤ 8 ∨ f_overOf m h D S = 1000000 := by
  refine fo_inv (fun _ n => n ≤ 8 ∨ n = 1000000) (nG m) 0 _ (by split; exact Or.inl (by omega); exact Or.inr rfl) (fun g n _ _ hn => ?_)
  try simp only
  split
  · split
    · exact over_le _ _
    · exact hn
  · exact hn
theorem ov_le {m : Nat → Int32} {h S : Nat} : ov m h S ≤ 8 ∨ ov m h S = 1000000 := by
  unfold ov
  rw [show ovN m h (S + 1) S = f_overOf m h (ovN m h S) S from if_pos rfl]
  exact overOf_le
section PR
variable {x t : Nat} {V : Nat → Nat → Int32} {m T : Nat → Int32} {Q : Int32 → Prop} {Q0 : (Nat → Nat → Int32) → Prop} {Q2 : Int32 → (Nat → Nat → Int32) → Prop} {X : String → (Nat → Nat → Int32) → Prop} {h g q : Nat}
theorem s1_canStay (hW : WRel V (x + 1) m) (hR : RowOk m) (hh : h < nH m) (hg : g < nG m) (hq8 : q ≤ 8) (hq : Q (b2i (f_fits m h g q = true))) : wX1_canStay x V (nI h) (nI g) (nI q) Q := by
  have h8 := hR.H8; have g8 := hR.G8
  obtain ⟨s1, s2, es⟩ := stay_r hR hg
  have e5 : nI q + V (x + 1 + 5) (nI g).toNatClampNeg = nI (q + f_st m g) := by rw [cl8 (by omega), (hW.2.2.1 g hg).1, es, nI_add]
  unfold f_fits at hq
  refine s2_both hW h8 g8 hh hg (p_bz ?_)
  split
  · next c =>
    rw [decide_eq_true c, Bool.true_and] at hq
    rw [e5]
    refine ⟨in8 (by omega), br_c (fun z => ?_) (fun z => ?_)⟩
    · have z2 : q + f_st m g ≤ 8 := (nI_leI (b := 8) (by omega) (by decide)).mp z
      rw [decide_eq_true z2, Bool.true_and] at hq
      refine all_loop (fun n k => wX1_canStay_33 x V (nI h) (nI g) (nI q) Q n (nI k)) (fun k => decide (isOf (m (12 + 4 * h) &&& m (44 + 3 * g)) (nI k))) (Q 1) (Q 0) (q + f_st m g) ?_ ?_ (f_st m g) q rfl (b2i_if hq)
      · intro n hP
        rw [wX1_canStay_33, e5]
        exact ⟨in8 (by omega), br_t (Int32.le_refl _) hP⟩
      · intro n k hk0 hk
        rw [wX1_canStay_33, e5]
        refine ⟨in8 (by omega), br_f (nI_ge hk0 (by omega)) (s2_can hW h8 g8 hh hg (p_bn ?_))⟩
        by_cases d : isOf (m (12 + 4 * h) &&& m (44 + 3 * g)) (nI k)
        · rw [if_pos ⟨d, c⟩]
          rw [if_pos (decide_eq_true d)] at hk
          exact nm_r (nI_1 k) hk
        · rw [if_neg (fun q => d q.1)]
          rw [if_neg (by rw [decide_eq_false d]; decide)] at hk
          exact hk
    · rw [decide_eq_false (fun q => z (nI_le (b := 8) q (by decide))), Bool.false_and] at hq
      exact hq
  · next c =>
    rw [decide_eq_false c, Bool.false_and] at hq
    exact hq
theorem s6_fitsFrom (hR : RowOk (V (t + 1))) (hh : h < 8) (hg : g < nG (V (t + 1))) (hq8 : q ≤ 8) (hq : Q (b2i (f_fits (V (t + 1)) h g q = true))) : wX6_fitsFrom t V (nI h) (nI g) (nI q) Q := by
  have h8 := hR.H8; have g8 := hR.G8
  obtain ⟨s1, s2, es⟩ := stay_r hR hg
  have e5 : nI q + V (t + 1) (43 + 3 * g + 0) = nI (q + f_st (V (t + 1)) g) := by
    show nI q + V (t + 1) (43 + 3 * g) = _
    rw [es, nI_add]
  unfold f_fits at hq
  refine s6_mayMeet hh (by omega) (p_bz ?_)
  split
  · next c =>
    rw [decide_eq_true c, Bool.true_and] at hq
    refine s6_ofGuest (w := 0) (by omega) (by decide) ?_
    rw [e5]
    refine br_c (fun z => ?_) (fun z => ?_)
    · have z2 : q + f_st (V (t + 1)) g ≤ 8 := (nI_leI (b := 8) (by omega) (by decide)).mp z
      rw [decide_eq_true z2, Bool.true_and] at hq
      refine flag_loop (fun n b k => wX6_fitsFrom_30 t V (nI h) (nI g) (nI q) Q n (b2i (b = true)) (nI k)) (fun k => decide (isOf (V (t + 1) (12 + 4 * h) &&& V (t + 1) (44 + 3 * g)) (nI k))) (fun b => Q (b2i (b = true))) (q + f_st (V (t + 1)) g) ?_ ?_ ?_ (f_st (V (t + 1)) g) q true rfl (by rw [Bool.true_and]; exact hq)
      · intro n b hP
        rw [wX6_fitsFrom_30]
        refine s6_ofGuest (w := 0) (by omega) (by decide) ?_
        rw [e5]
        exact br_t (Int32.le_refl _) ⟨jz_b, hP⟩
      · intro n k hk0 hP
        rw [wX6_fitsFrom_30]
        refine s6_ofGuest (w := 0) (by omega) (by decide) ?_
        rw [e5]
        exact br_f (nI_ge hk0 (by omega)) (br_t rfl ⟨jz_b, hP⟩)
      · intro n k hk0 hk
        rw [wX6_fitsFrom_30]
        refine s6_ofGuest (w := 0) (by omega) (by decide) ?_
        rw [e5]
        refine br_f (nI_ge hk0 (by omega)) (br_f (by decide) (s6_of (w := 1) hh (by decide) (s6_ofGuest (w := 1) (by omega) (by decide) (s6_isOf (nm_r (nI_1 k) ?_)))))
        rw [show 11 + 4 * h + 1 = 12 + 4 * h by omega, show 43 + 3 * g + 1 = 44 + 3 * g by omega]
        by_cases d : isOf (V (t + 1) (12 + 4 * h) &&& V (t + 1) (44 + 3 * g)) (nI k)
        · rw [decide_eq_true d] at hk; rw [b2i_t d]; exact hk
        · rw [decide_eq_false d] at hk; rw [b2i_f d]; exact hk
    · rw [decide_eq_false (fun q => z (nI_le (b := 8) q (by decide))), Bool.false_and] at hq
      exact hq
  · next c =>
    rw [decide_eq_false c, Bool.false_and] at hq
    exact hq
theorem s1_overFrom (hW : WRel V (x + 1) m) (hR : RowOk m) (hh : h < nH m) (hg : g < nG m) (hq8 : q ≤ 8) (hq : Q (nI (f_over m h g q))) : wX1_overFrom x V (nI h) (nI g) (nI q) Q := by
  have h8 := hR.H8; have g8 := hR.G8
  obtain ⟨s1, s2, es⟩ := stay_r hR hg
  have go : ∀ k i, i + k = 8 → Q (nI (ovF (f_fits m h g) (f_st m g) k i)) → ∃ f9, wX1_overFrom_3 x V (nI h) (nI g) (nI q) Q f9 (nI i) := by
    intro k
    induction k with
    | zero =>
      intro i hi hP
      obtain rfl : i = 8 := hi
      exact ⟨1, by rw [wX1_overFrom_3]; exact br_t (by decide) hP⟩
    | succ k ih =>
      intro i hi hP
      change Q (nI (if f_fits m h g i = true then i + f_st m g else ovF (f_fits m h g) (f_st m g) k (i + 1))) at hP
      by_cases c : f_fits m h g i = true
      · rw [if_pos c] at hP
        refine ⟨1, ?_⟩
        rw [wX1_overFrom_3]
        refine br_f (nI_ge (b := 8) (by omega) (by decide)) (s1_canStay hW hR hh hg (by omega) (p_bz ?_))
        rw [if_pos c, cl8 (show g < 8 by omega), (hW.2.2.1 g hg).1, es, nI_add]
        exact ⟨in8 (by omega), hP⟩
      · rw [if_neg c] at hP
        obtain ⟨n, hn⟩ := ih (i + 1) (by omega) hP
        refine ⟨n + 1, ?_⟩
        rw [wX1_overFrom_3]
        refine br_f (nI_ge (b := 8) (by omega) (by decide)) (s1_canStay hW hR hh hg (by omega) (p_bz ?_))
        rw [if_neg c]
        exact nm_r (nI_1 i) hn
  exact go (8 - q) q (by omega) hq
theorem s1_overOf {D : Nat → Nat} {S : Nat} (hW : WRel V (x + 1) m) (hR : RowOk m) (hh : h < nH m) (hS : S < 256) (hD : ∀ S', S' < S → V (x + 155) S' = nI (D S') ∧ (D S' ≤ 8 ∨ D S' = 1000000)) (hq : Q (nI (f_overOf m h D S))) : wX1_overOf x V (nI h) (nI S) Q := by
  have h8 := hR.H8; have g8 := hR.G8; have hG := hR.G
  unfold f_overOf at hq
  have go : ∀ n0 : Nat, (n0 ≤ 1000000) → Q (nI (fo (fun g n => if inS S g ∧ D (S - 2 ^ g) < 1000000 then (if f_over m h g (D (S - 2 ^ g)) < n then f_over m h g (D (S - 2 ^ g)) else n) else n) (nG m) 0 n0)) → ∃ f9, wX1_overOf_15 x V (nI h) (nI S) Q f9 (nI n0) 0 := by
    intro n0 h0 hq
    refine fo_loopI (fun n v g => wX1_overOf_15 x V (nI h) (nI S) Q n (nI v) (nI g)) _ (fun v => Q (nI v)) (fun _ v => v ≤ 1000000) (nG m) ?_ ?_ ?_ (nG m) 0 n0 (Nat.zero_add _) h0 hq
    · intro n v hP
      rw [wX1_overOf_15, hW.guests, hG]
      exact br_t (Int32.le_refl _) hP
    · intro g v hg hv
      try simp only
      split
      · split <;> omega
      · exact hv
    · intro n v g hg hv hk
      obtain ⟨-, -, o3⟩ := set_or ⟨S, hS⟩ ⟨g, by omega⟩
      simp only at o3
      rw [wX1_overOf_15, hW.guests, hG]
      refine br_f (nI_ge hg (by omega)) (s1_has (p_bz ?_))
      split
      · next z =>
        have z := o3.mp z
        obtain ⟨l1, l2⟩ := set_less ⟨S, hS⟩ ⟨g, by omega⟩ z
        simp only at l1 l2
        obtain ⟨d1, d2⟩ := hD _ l2
        rw [l1, nI_clamp (by omega), d1]
        refine ⟨vp_in_nI (by omega) (by decide), br_c (fun z2 => ?_) (fun z2 => ⟨vp_in_nI (by omega) (by decide), ?_⟩)⟩
        · have z3 : 1000000 ≤ D (S - 2 ^ g) := (nI_leI (a := 1000000) (by decide) (by omega)).mp z2
          rw [if_neg (fun q => by omega)] at hk
          exact nm_r (nI_1 g) hk
        · have z3 : D (S - 2 ^ g) < 1000000 := Nat.not_le.mp fun q => z2 (nI_le (a := 1000000) q (by omega))
          rw [if_pos ⟨z, z3⟩] at hk
          have ol := over_le (m := m) (h := h) (g := g) (8 - D (S - 2 ^ g)) (D (S - 2 ^ g))
          change f_over m h g (D (S - 2 ^ g)) ≤ 8 ∨ f_over m h g (D (S - 2 ^ g)) = 1000000 at ol
          refine s1_overFrom hW hR hh hg (by omega) (nm_r ?_ (nm_r (nI_1 g) hk))
          by_cases c : f_over m h g (D (S - 2 ^ g)) < v
          · rw [if_pos c, if_pos (nI_lt c (by omega))]
          · rw [if_neg c, if_neg (fun q => c ((nI_ltI (by omega) (by omega)).mp q))]
      · next z =>
        rw [if_neg (fun q => z (o3.mpr q.1))] at hk
        exact nm_r (nI_1 g) hk
  refine ⟨fun z => ?_, fun z => ?_⟩
  · rw [if_neg (fun q => z (by rw [q]; rfl))] at hq
    exact go 1000000 (Nat.le_refl _) hq
  · rw [if_pos ((nI_eq (b := 0) (by omega) (by decide)).mp z)] at hq
    exact go 0 (by decide) hq
end PR
