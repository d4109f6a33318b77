/-! ===== PURE: plain questions, more ===== -/
theorem t_thr {V : Nat → Nat → Int32} {t : Nat} {s1 : Int32} {A B : Prop} (h : if s1 ≤ 0 then A else B) : ((vset V t 0 s1 t 0) ≤ 0 → A) ∧ (¬ (vset V t 0 s1 t 0) ≤ 0 → B) := by
  rw [vt0]
  exact p_ite h
theorem flag_loop (W : Nat → Bool → Nat → Prop) (p : Nat → Bool) (P : Bool → Prop) (e : Nat) (hx : ∀ n b, P b → W (n + 1) b e) (hf : ∀ n i, i < e → P false → W (n + 1) false i) (hs : ∀ n i, i < e → W n (p i) (i + 1) → W (n + 1) true i) : ∀ (k i : Nat) (b : Bool), i + k = e → P (b && allB p k i) → ∃ n, W n b i := by
  intro k
  induction k with
  | zero =>
    intro i b hi hP
    obtain rfl : i = e := hi
    exact ⟨1, hx 0 b (by rw [show (b && allB p 0 i) = b by cases b <;> rfl] at hP; exact hP)⟩
  | succ k ih =>
    intro i b hi hP
    cases b with
    | false => exact ⟨1, hf 0 i (by omega) hP⟩
    | true =>
      obtain ⟨n, hn⟩ := ih (i + 1) (p i) (by omega) hP
      exact ⟨n + 1, hs n i (by omega) hn⟩
theorem allB_false (p : Nat → Bool) (k i : Nat) : fo (fun g b => b && p g) k i false = false := by
  induction k generalizing i with
  | zero => rfl
  | succ k ih => exact ih (i + 1)
theorem fo_all (p : Nat → Bool) : ∀ (k i : Nat) (b : Bool), fo (fun g b => b && p g) k i b = (b && allB p k i) := by
  intro k
  induction k with
  | zero => intro i b; cases b <;> rfl
  | succ k ih =>
    intro i b
    show fo (fun g b => b && p g) k (i + 1) (b && p i) = (b && (p i && allB p k (i + 1)))
    rw [ih, Bool.and_assoc]
theorem flag_loop2 (W : Nat → Bool → Nat → Prop) (p : Nat → Bool) (P : Bool → Prop) (e : Nat) (hx : ∀ n b, P b → W (n + 1) b e) (hf : ∀ n i, i < e → W n false (i + 1) → W (n + 1) false i) (hs : ∀ n i, i < e → W n (p i) (i + 1) → W (n + 1) true i) (k i : Nat) (b : Bool) (hi : i + k = e) (hP : P (b && allB p k i)) : ∃ n, W n b i := by
  rw [← fo_all] at hP
  refine fo_loop W (fun g b => b && p g) P e hx (fun n a j hj hw => ?_) k i b hi hP
  cases a with
  | false => exact hf n j hj hw
  | true => exact hs n j hj hw
def f_hasBy (m : Nat → Int32) (h q : Nat) : Int32 := (m (11 + 4 * h) + 1) * nI q - (if q ≤ pc (m (12 + 4 * h)).toNatClampNeg then 0 else 4)
def f_treaty (m : Nat → Int32) (a b : Nat) : Int32 × Int32 := fo (fun q z =>
  if f_hasBy m a q - 2 < 0 then z else if f_hasBy m b (8 - q) - 2 < 0 then z else if z.2 < (f_hasBy m a q - 2) * (f_hasBy m b (8 - q) - 2) then (nI q, (f_hasBy m a q - 2) * (f_hasBy m b (8 - q) - 2)) else z) 9 0 (-1, -1)
def f_gateHas (a b : Nat) : Int32 := if a = 1 then (if b = 1 then -2 else 0) else (if b = 1 then 3 else -1)
def f_comerHas (m : Nat → Int32) (h g a b : Nat) : Int32 := if b = 0 then (if f_marked m (m (45 + 3 * g)) then m (131 + 8 * g + h) else 0) else (if a = 1 then m (131 + 8 * g + h) + 1 else -3)
def f_rest (m : Nat → Int32) (h g a b : Nat) (s : Int32) : Int32 := if f_gateHas a b < f_gateHas (1 - a) b then s else if f_comerHas m h g a b < f_comerHas m h g a (1 - b) then s else s ||| (1 : Int32) <<< (nI (2 * a + b) &&& 31)
def f_rests (m : Nat → Int32) (h g : Nat) : Int32 := f_rest m h g 1 1 (f_rest m h g 1 0 (f_rest m h g 0 1 (f_rest m h g 0 0 0)))
section P2
variable {x t : Nat} {V : Nat → Nat → Int32} {m : Nat → Int32} {Q : Int32 → Prop} {Q2 : Int32 → (Nat → Nat → Int32) → Prop} {P : Prop} {X : String → Prop}
theorem s1_forlorn (hW : WRel V (x + 1) m) (hR : RowOk m) (hq : Q (f_forlorn m)) : wX1_forlorn x V Q := by
  have hH := hR.H; have h8 := hR.H8; have hG := hR.G; have g8 := hR.G8
  unfold f_forlorn at hq
  by_cases c : m 4 ≤ 0
  · rw [if_pos c] at hq
    refine ⟨1, ?_⟩
    rw [wX1_forlorn_4, hW.hosts, hW.guests]
    exact ⟨fun _ => hq, fun _ => br_t c hq⟩
  · rw [if_neg c] at hq
    refine fo_loop (fun n a i => wX1_forlorn_4 x V Q n a (nI i)) _ Q (nH m) ?_ ?_ (nH m) 0 0 (Nat.zero_add _) hq
    · intro n a hP
      rw [wX1_forlorn_4, hW.hosts]
      exact br_t (by rw [hH]; exact Int32.le_refl _) hP
    · intro n a h hi hk
      rw [wX1_forlorn_4, hW.hosts, hW.guests]
      refine br_f (by rw [hH]; exact nI_ge hi (by omega)) (br_f c (s1_isForlorn hW hR hi (p_bz ?_)))
      split
      · next z => rw [if_pos z] at hk; exact nm_e (nm_r (nI_1 h) hk)
      · next z => rw [if_neg z] at hk; exact nm_e (nm_r (nI_1 h) hk)
theorem s6_forlorn (hR : RowOk (V (t + 1))) (hq : Q2 (f_forlorn (V (t + 1))) (vset V t 0 0)) : wX6_forlorn t V Q2 := by
  unfold wX6_forlorn
  have e1 : vset V t 0 0 (t + 1) = V (t + 1) := vt1
  rw [← e1] at hq hR
  generalize vset V t 0 0 = V1 at *
  have hH := hR.H; have h8 := hR.H8; have hG := hR.G; have g8 := hR.G8
  unfold f_forlorn at hq
  by_cases c : V1 (t + 1) 4 ≤ 0
  · rw [if_pos c] at hq
    refine ⟨1, ?_⟩
    rw [wX6_forlorn_9]
    exact ⟨fun _ => hq, fun _ => br_t c hq⟩
  · rw [if_neg c] at hq
    refine fo_loop (fun n a i => wX6_forlorn_9 t Q2 n V1 a (nI i)) _ (fun a => Q2 a V1) (nH (V1 (t + 1))) ?_ ?_ (nH (V1 (t + 1))) 0 0 (Nat.zero_add _) hq
    · intro n a hP
      rw [wX6_forlorn_9]
      exact br_t (by rw [hH]; exact Int32.le_refl _) hP
    · intro n a h hi hk
      rw [wX6_forlorn_9]
      refine br_f (by rw [hH]; exact nI_ge hi (by omega)) (br_f c ?_)
      refine flag_loop2 (fun n2 b g => wX6_forlorn_33 t Q2 (fun V x1 x2 => wX6_forlorn_9 t Q2 n V x1 x2) n2 V1 a (nI h) (b2i (b = true)) (nI g)) (fun g => allB (fun q => !decide (f_can (V1 (t + 1)) h g (nI q))) 8 0) (fun b => wX6_forlorn_9 t Q2 n V1 (a ||| (if b = true then (1 : Int32) <<< (nI h &&& 31) else 0)) (nI (h + 1))) (nG (V1 (t + 1))) ?_ ?_ ?_ (nG (V1 (t + 1))) 0 true (Nat.zero_add _) (by rw [Bool.true_and]; exact hk)
      · intro n2 b hP
        rw [wX6_forlorn_33]
        refine br_t (by rw [hG]; exact Int32.le_refl _) (p_bz ?_)
        split
        · next z => rw [if_pos z] at hP; exact nm_e (nm_r (nI_1 h) hP)
        · next z => rw [if_neg z] at hP; exact nm_e (nm_r (nI_1 h) hP)
      · intro n2 g hg hP
        rw [wX6_forlorn_33]
        refine br_f (by rw [hG]; exact nI_ge hg (by omega)) ⟨1, ?_⟩
        rw [wX6_forlorn_47]
        exact br_f (by decide) (br_t (b2i_f (by decide)) (nm_r (nI_1 g) hP))
      · intro n2 g hg hk
        rw [wX6_forlorn_33]
        refine br_f (by rw [hG]; exact nI_ge hg (by omega)) ?_
        refine flag_loop (fun n3 b q => wX6_forlorn_47 t Q2 (fun V x1 x2 => wX6_forlorn_9 t Q2 n V x1 x2) (fun V x1 x2 x3 x4 => wX6_forlorn_33 t Q2 (fun V x1 x2 => wX6_forlorn_9 t Q2 n V x1 x2) n2 V x1 x2 x3 x4) n3 V1 a (nI h) (b2i (b = true)) (nI g) (nI q)) (fun q => !decide (f_can (V1 (t + 1)) h g (nI q))) (fun b => wX6_forlorn_33 t Q2 (fun V x1 x2 => wX6_forlorn_9 t Q2 n V x1 x2) n2 V1 a (nI h) (b2i (b = true)) (nI (g + 1))) 8 ?_ ?_ ?_ 8 0 true rfl (by rw [Bool.true_and]; exact hk)
        · intro n3 b hP
          rw [wX6_forlorn_47]
          exact br_t (by decide) (nm_r (nI_1 g) hP)
        · intro n3 q hq2 hP
          rw [wX6_forlorn_47]
          exact br_f (nI_ge hq2 (by decide)) (br_t (b2i_f (by decide)) (nm_r (nI_1 g) hP))
        · intro n3 q hq2 hk
          rw [wX6_forlorn_47]
          refine br_f (nI_ge hq2 (by decide)) (br_f (by decide) (s6_canMeet (by omega) (by omega) (p_bn ?_)))
          split
          · next z => rw [decide_eq_true z] at hk; exact nm_r (nI_1 q) hk
          · next z => rw [decide_eq_false z] at hk; exact nm_r (nI_1 q) hk
theorem s1_twoHosts {a b : Int32} (hW : WRel V (x + 1) m) (hq : if isHostP m a then (if isHostP m b then P else X "java/lang/IndexOutOfBoundsException") else X "java/lang/IndexOutOfBoundsException") : wX1_twoHosts x V a b P X := by
  unfold wX1_twoHosts
  by_cases c : isHostP m a
  · rw [if_pos c] at hq
    refine Or.inl (s1_hostAt hW ?_)
    rw [if_pos c]
    by_cases c2 : isHostP m b
    · rw [if_pos c2] at hq
      exact Or.inl (s1_hostAt hW (by rw [if_pos c2]; exact hq))
    · rw [if_neg c2] at hq
      exact Or.inr (s1_hostAt hW (by rw [if_neg c2]; exact hq))
  · rw [if_neg c] at hq
    exact Or.inr (s1_hostAt hW (by rw [if_neg c]; exact hq))
theorem s1_allAt {h g q : Int32} (hW : WRel V (x + 1) m) (hq : if isHostP m h then (if isGuestP m g then (if isQuarterP q then P else X "java/lang/IndexOutOfBoundsException") else X "java/lang/IndexOutOfBoundsException") else X "java/lang/IndexOutOfBoundsException") : wX1_allAt x V h g q P X := by
  unfold wX1_allAt
  by_cases c : isHostP m h
  · rw [if_pos c] at hq
    refine Or.inl (s1_hostAt hW ?_)
    rw [if_pos c]
    by_cases c2 : isGuestP m g
    · rw [if_pos c2] at hq
      refine Or.inl (s1_guestAt hW ?_)
      rw [if_pos c2]
      by_cases c3 : isQuarterP q
      · rw [if_pos c3] at hq
        exact Or.inl (s1_quarterAt (by rw [if_pos c3]; exact hq))
      · rw [if_neg c3] at hq
        exact Or.inr (s1_quarterAt (by rw [if_neg c3]; exact hq))
    · rw [if_neg c2] at hq
      exact Or.inr (s1_guestAt hW (by rw [if_neg c2]; exact hq))
  · rw [if_neg c] at hq
    exact Or.inr (s1_hostAt hW (by rw [if_neg c]; exact hq))
theorem s1_hasBy {h q : Nat} (hW : WRel V (x + 1) m) (hR : RowOk m) (hh : h < nH m) (hq8 : q ≤ 8) (hq : Q (f_hasBy m h q)) : wX1_hasBy x V (nI h) (nI q) Q := by
  have h8 := hR.H8
  obtain ⟨r, hr, er⟩ := hR.2.2.2.2.2.2.2.1 h hh
  unfold wX1_hasBy
  rw [cl8 (show h < 8 by omega), (hW.2.1 h hh).1, (hW.2.1 h hh).2.1, er]
  unfold f_hasBy at hq
  rw [er, nI_clamp (by omega)] at hq
  have hpc : pc r < 2 ^ 31 := by
    have : ∀ r : Fin 256, pc r.val < 2 ^ 31 := by decide +kernel
    exact this ⟨r, hr⟩
  refine ⟨in8 (by omega), in8 (by omega), s_bitCount (by omega) (p_ite ?_)⟩
  split
  · next z => rw [if_pos ((nI_leI (by omega) hpc).mp z)] at hq; exact hq
  · next z => rw [if_neg (fun q => z ((nI_leI (by omega) hpc).mpr q))] at hq; exact hq
theorem s6_hasBy {h q : Nat} (hR : RowOk (V (t + 1))) (hh : h < nH (V (t + 1))) (hq8 : q ≤ 8) (hq : Q (f_hasBy (V (t + 1)) h q)) : wX6_hasBy t V (nI h) (nI q) Q := by
  have h8 := hR.H8
  obtain ⟨r, hr, er⟩ := hR.2.2.2.2.2.2.2.1 h hh
  unfold f_hasBy at hq
  rw [er, nI_clamp (by omega)] at hq
  have hpc : pc r < 2 ^ 31 := by
    have : ∀ r : Fin 256, pc r.val < 2 ^ 31 := by decide +kernel
    exact this ⟨r, hr⟩
  refine s6_of (w := 0) (by omega) (by decide) (s6_of (w := 1) (by omega) (by decide) ?_)
  rw [show 11 + 4 * h + 1 = 12 + 4 * h by omega, er, Nat.add_zero]
  refine s6_bits (by omega) (p_ite ?_)
  split
  · next z => rw [if_pos ((nI_leI (by omega) hpc).mp z)] at hq; exact hq
  · next z => rw [if_neg (fun q => z ((nI_leI (by omega) hpc).mpr q))] at hq; exact hq
end P2
