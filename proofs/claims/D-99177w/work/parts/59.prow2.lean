/-! ===== PURE: rows of guests: the component's answer; what over is ===== -/
theorem inS_le {S g : Nat} (h : inS S g) : 2 ^ g ≤ S := by
  have hp : 0 < 2 ^ g := Nat.pow_pos (by decide)
  by_cases c : S < 2 ^ g
  · rw [inS, Nat.div_eq_of_lt c] at h
    omega
  · omega
theorem ov_eq {m : Nat → Int32} {h S : Nat} : ov m h S = f_overOf m h (ov m h) S := by
  unfold ov
  rw [show ovN m h (S + 1) S = f_overOf m h (ovN m h S) S from if_pos rfl]
  unfold f_overOf
  refine fo_congr _ _ _ (fun g n _ _ => ?_)
  try simp only
  by_cases c : inS S g
  · have hp : 0 < 2 ^ g := Nat.pow_pos (by decide)
    have := inS_le c
    rw [show ovN m h S (S - 2 ^ g) = ov m h (S - 2 ^ g) from ovN_ov (by omega)]
    rfl
  · rw [if_neg (fun q => c q.1), if_neg (fun q => c q.1)]
theorem fo_min {step : Nat → Nat → Nat} (hs : ∀ i n, step i n ≤ n) : ∀ (k i n : Nat), fo step k i n ≤ n := by
  intro k
  induction k with
  | zero => intro i n; exact Nat.le_refl _
  | succ k ih => intro i n; exact Nat.le_trans (ih (i + 1) _) (hs i n)
theorem fo_min2 {step : Nat → Nat → Nat} (hs : ∀ i n, step i n ≤ n) {g v : Nat} (hg : ∀ n, step g n ≤ v) : ∀ (k i n : Nat), i ≤ g → g < i + k → fo step k i n ≤ v := by
  intro k
  induction k with
  | zero => intro i n h1 h2; omega
  | succ k ih =>
    intro i n h1 h2
    rcases Nat.eq_or_lt_of_le h1 with rfl | h3
    · exact Nat.le_trans (fo_min hs k (i + 1) _) (hg n)
    · exact ih (i + 1) _ h3 (by omega)
theorem ov_min {m : Nat → Int32} {h S g : Nat} (hg : g < nG m) (hS : inS S g) (hv : ov m h (S - 2 ^ g) < 1000000) : ov m h S ≤ f_over m h g (ov m h (S - 2 ^ g)) := by
  rw [ov_eq]
  unfold f_overOf
  refine fo_min2 (g := g) (fun i n => ?_) (fun n => ?_) _ _ _ (Nat.zero_le _) (by omega)
  · try simp only
    split
    · split <;> omega
    · exact Nat.le_refl _
  · try simp only
    rw [if_pos ⟨hS, hv⟩]
    split <;> omega
theorem ov_att {m : Nat → Int32} {h S : Nat} (h0 : ¬ S = 0) (h8 : ov m h S ≤ 8) : ∃ g, g < nG m ∧ inS S g ∧ ov m h (S - 2 ^ g) < 1000000 ∧ ov m h S = f_over m h g (ov m h (S - 2 ^ g)) := by
  have e := ov_eq (m := m) (h := h) (S := S)
  unfold f_overOf at e
  rw [if_neg h0] at e
  have := fo_inv (f := fun g n => if inS S g ∧ ov m h (S - 2 ^ g) < 1000000 then (if f_over m h g (ov m h (S - 2 ^ g)) < n then f_over m h g (ov m h (S - 2 ^ g)) else n) else n) (fun i n => n = 1000000 ∨ ∃ g, g < i ∧ inS S g ∧ ov m h (S - 2 ^ g) < 1000000 ∧ n = f_over m h g (ov m h (S - 2 ^ g))) (nG m) 0 1000000 (Or.inl rfl) (fun j n _ _ hn => by
    try simp only
    have keep : n = 1000000 ∨ ∃ g, g < j + 1 ∧ inS S g ∧ ov m h (S - 2 ^ g) < 1000000 ∧ n = f_over m h g (ov m h (S - 2 ^ g)) := hn.imp id (fun ⟨g, h1, h2⟩ => ⟨g, by omega, h2⟩)
    split
    · next c =>
      split
      · exact Or.inr ⟨j, by omega, c.1, c.2, rfl⟩
      · exact keep
    · exact keep)
  rw [Nat.zero_add, ← e] at this
  rcases this with h1 | ⟨g, h1, h2⟩
  · omega
  · exact ⟨g, h1, h2⟩
theorem ovF_min {p : Nat → Bool} {st f : Nat} (hf : p f = true) : ∀ (k i : Nat), i ≤ f → f < i + k → ovF p st k i ≤ f + st := by
  intro k
  induction k with
  | zero => intro i h1 h2; omega
  | succ k ih =>
    intro i h1 h2
    by_cases c : p i = true
    · rw [show ovF p st (k + 1) i = i + st from if_pos c]; omega
    · rw [show ovF p st (k + 1) i = ovF p st k (i + 1) from if_neg c]
      rcases Nat.eq_or_lt_of_le h1 with rfl | h3
      · exact absurd hf c
      · exact ih (i + 1) h3 (by omega)
theorem ovF_att {p : Nat → Bool} {st : Nat} : ∀ (k i : Nat), ovF p st k i < 1000000 → ∃ f, i ≤ f ∧ f < i + k ∧ p f = true ∧ ovF p st k i = f + st := by
  intro k
  induction k with
  | zero => intro i h; exact absurd h (by show ¬ 1000000 < 1000000; omega)
  | succ k ih =>
    intro i h
    by_cases c : p i = true
    · exact ⟨i, Nat.le_refl _, by omega, c, if_pos c⟩
    · rw [show ovF p st (k + 1) i = ovF p st k (i + 1) from if_neg c] at h ⊢
      obtain ⟨f, h1, h2, h3, h4⟩ := ih (i + 1) h
      exact ⟨f, by omega, by omega, h3, h4⟩
theorem fo_add {α : Type} {f : Nat → α → α} : ∀ (a b i : Nat) (x : α), fo f (a + b) i x = fo f b (i + a) (fo f a i x) := by
  intro a
  induction a with
  | zero => intro b i x; rw [Nat.zero_add]; rfl
  | succ a ih =>
    intro b i x
    rw [show a + 1 + b = (a + b) + 1 by omega]
    show fo f (a + b) (i + 1) (f i x) = fo f b (i + (a + 1)) (fo f a (i + 1) (f i x))
    rw [ih, show i + 1 + a = i + (a + 1) by omega]
abbrev subOf (a : Int32) (k : Nat) : Prop := (nI k &&& (a ^^^ (-1 : Int32))) = 0
def bestStep (p : Nat → Prop) [DecidablePred p] (k b : Nat) : Nat := if p k ∧ pc b < pc k then k else b
def f_row (m : Nat → Int32) (h : Nat) (a : Int32) : Nat := fo (bestStep (fun k => subOf a k ∧ ov m h k < 1000000)) (2 ^ nG m) 0 0
def o_row (m : Nat → Int32) (h a s : Int32) : Ot := if isHostP m h then .inl (if s = 0 then nI (pc (f_row m h.toNatClampNeg a)) else nI (f_row m h.toNatClampNeg a)) else .inr (xIo, 1)
theorem best_lt {p : Nat → Prop} [DecidablePred p] {e : Nat} (he : 0 < e) : ∀ (i b : Nat), i < e → b < e → bestStep p i b < e := by
  intro i b h1 h2
  unfold bestStep
  split <;> omega
theorem pow_nG : ∀ n : Fin 9, (1 : Int32) <<< (nI n.val &&& 31) = nI (2 ^ n.val) ∧ 2 ^ n.val ≤ 256 ∧ 0 < 2 ^ n.val := by decide +kernel
section PR2
variable {x t : Nat} {V : Nat → Nat → Int32} {m T : Nat → Int32} {Q : Int32 → Prop} {Q0 : (Nat → Nat → Int32) → Prop} {Q2 : Int32 → (Nat → Nat → Int32) → Prop} {X : String → (Nat → Nat → Int32) → Prop} {h a s : Int32}
theorem s1_row (hW : WRel V (x + 1) m) (hR : RowOk m) (hq : ∀ V', (∀ a, a ≠ x + 155 → V' a = V a) → oC (o_row m h a s) (fun r => Q2 r V') (fun e => X e V')) : wX1_row x V h a s Q2 X := by
  have h8 := hR.H8; have g8 := hR.G8; have hG := hR.G
  refine e1_hostAt (X := fun E => X E V) hW ?_
  split
  · next c =>
    obtain ⟨i, hi, hi8, rfl⟩ := hR.host c
    obtain ⟨p1, p2, p3⟩ := pow_nG ⟨nG m, by omega⟩
    simp only at p1 p2 p3
    have hq2 : ∀ V', (∀ a, a ≠ x + 155 → V' a = V a) → Q2 (if s = 0 then nI (pc (f_row m i a)) else nI (f_row m i a)) V' := by
      intro V' f
      have h := hq V' f
      unfold o_row at h
      rw [if_pos c, cl8 hi8] at h
      exact h
    unfold f_row at hq2
    generalize hE : 2 ^ nG m = E at *
    refine ⟨E + 1, vloop (fun n (z : (Nat → Nat → Int32) × Nat) k => wX1_row_11 x (nI i) a s Q2 X n z.1 (nI z.2) (nI k)) (fun k z => (∀ a, a ≠ x + 155 → z.1 a = V a) ∧ (∀ k', k' < k → z.1 (x + 155) k' = nI (ov m i k')) ∧ z.2 < E ∧ fo (bestStep (fun k => subOf a k ∧ ov m i k < 1000000)) (E - k) k z.2 = fo (bestStep (fun k => subOf a k ∧ ov m i k < 1000000)) E 0 0) E ?_ ?_ E 0 (V, 0) (Nat.zero_add _) ⟨fun _ _ => rfl, fun k hk => absurd hk (Nat.not_lt_zero _), p3, rfl⟩⟩
    · rintro n ⟨V1, b⟩ ⟨i1, i2, i3, i4⟩
      simp only at i1 i2 i3 i4
      rw [Nat.sub_self] at i4
      change b = _ at i4
      have h2 := hq2 V1 i1
      rw [← i4] at h2
      have w1 := hW.frame (V' := V1) (fun a h1 h2 => i1 a (by omega)) h8 g8
      show wX1_row_11 x (nI i) a s Q2 X (n + 1) V1 (nI b) (nI E)
      rw [wX1_row_11, w1.guests, hG, p1]
      refine br_t (Int32.le_refl _) (br_c (fun z => ?_) (fun z => ?_))
      · rw [if_pos z] at h2
        exact s_bitCount (by omega) h2
      · rw [if_neg z] at h2
        exact h2
    · rintro n ⟨V1, b⟩ k hk ⟨i1, i2, i3, i4⟩ hK
      simp only at i1 i2 i3 i4
      have w1 := hW.frame (V' := V1) (fun a h1 h2 => i1 a (by omega)) h8 g8
      have vk : vp_in (nI k) 256 := vp_in_nI (by omega) (by decide)
      have eo : ov m i k = f_overOf m i (ov m i) k := ov_eq
      have ol := ov_le (m := m) (h := i) (S := k)
      rw [show E - k = (E - (k + 1)) + 1 by omega] at i4
      change fo _ _ (k + 1) (bestStep _ k b) = _ at i4
      have fin : ∀ b', b' = bestStep (fun k => subOf a k ∧ ov m i k < 1000000) k b → wX1_row_11 x (nI i) a s Q2 X n (vset V1 (x + 155) k (nI (ov m i k))) (nI b') (nI (k + 1)) := by
        intro b' eb
        refine hK (vset V1 (x + 155) k (nI (ov m i k)), b') ⟨fun r hr => (show vset V1 (x + 155) k (nI (ov m i k)) r = V1 r from vset_n V1 k _ hr).trans (i1 r hr), fun k' hk' => ?_, ?_, by rw [eb]; exact i4⟩
        · show vset V1 (x + 155) k (nI (ov m i k)) (x + 155) k' = _
          rw [vset_s]
          by_cases c : k' = k
          · rw [c, pk_us]
          · rw [pk_un (by omega)]; exact i2 k' (by omega)
        · show b' < E
          rw [eb]
          exact best_lt p3 k b hk i3
      have es : vset V1 (x + 155) k (nI (ov m i k)) (x + 155) k = nI (ov m i k) := by rw [vset_s, pk_us]
      have pk12 := pc_12 k
      have pb12 := pc_12 b
      show wX1_row_11 x (nI i) a s Q2 X (n + 1) V1 (nI b) (nI k)
      rw [wX1_row_11, w1.guests, hG, p1, nI_clamp (show k < 2 ^ 31 by omega)]
      refine br_f (nI_ge hk (by omega)) (s1_overOf w1 hR hi (by omega) (D := ov m i) (fun S' hS' => ⟨i2 S' hS', ov_le⟩) ?_)
      rw [← eo, es]
      refine ⟨vk, fun z => nm_r (nI_1 k) (fin b ?_), fun z => ⟨vk, br_c (fun z2 => nm_r (nI_1 k) (fin b ?_)) (fun z2 => s_bitCount (by omega) (s_bitCount (by omega) (br_c (fun z3 => nm_r (nI_1 k) (fin b ?_)) (fun z3 => nm_r (nI_1 k) (fin k ?_)))))⟩⟩
      · exact (if_neg (fun q => z q.1.1)).symm
      · have z4 := (nI_leI (a := 1000000) (by decide) (by omega)).mp z2
        exact (if_neg (fun q => by have := q.1.2; omega)).symm
      · have z4 := (nI_leI (by omega) (by omega)).mp z3
        exact (if_neg (fun q => by have := q.2; omega)).symm
      · have z4 : ¬ pc k ≤ pc b := fun q => z3 (nI_le q (by omega))
        have z5 : ¬ 1000000 ≤ ov m i k := fun q => z2 (nI_le (a := 1000000) q (by omega))
        exact (if_pos ⟨⟨z, by omega⟩, by omega⟩).symm
  · next c =>
    have h := hq V (fun _ _ => rfl)
    unfold o_row at h
    rw [if_neg c] at h
    exact h
end PR2
