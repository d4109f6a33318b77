/-! ===== PURE: plain questions, both sides ===== -/
theorem fo_loopI {α : Type} (W : Nat → α → Nat → Prop) (step : Nat → α → α) (P : α → Prop) (I : Nat → α → Prop) (e : Nat) (hx : ∀ n a, P a → W (n + 1) a e) (hI : ∀ i a, i < e → I i a → I (i + 1) (step i a)) (hs : ∀ n a i, i < e → I i a → W n (step i a) (i + 1) → W (n + 1) a i) : ∀ (k i : Nat) (a : α), i + k = e → I i a → P (fo step k i a) → ∃ n, W n a i := by
  intro k
  induction k with
  | zero =>
    intro i a hi _ hP
    obtain rfl : i = e := hi
    exact ⟨1, hx 0 a hP⟩
  | succ k ih =>
    intro i a hi h0 hP
    obtain ⟨n, hn⟩ := ih (i + 1) (step i a) (by omega) (hI i a (by omega) h0) hP
    exact ⟨n + 1, hs n a i (by omega) h0 hn⟩
theorem vt0 {V : Nat → Nat → Int32} {t : Nat} {s : Int32} : vset V t 0 s t 0 = s := by rw [vset_s, pk_us]
theorem vt1 {V : Nat → Nat → Int32} {t j : Nat} {s : Int32} : vset V t j s (t + 1) = V (t + 1) := vset_n V j s (by omega)
def f_twiceN (m : Nat → Int32) (g : Nat) : Int32 := fo (fun h n => n + (if isOf (f_sees m h) (nI g) then 1 else 0)) (nH m) 0 0
def f_twice (m : Nat → Int32) : Int32 := fo (fun g a => a ||| (if f_twiceN m g ≤ 1 then 0 else (1 : Int32) <<< (nI g &&& 31))) (nG m) 0 0
def f_dearest (m : Nat → Int32) : Int32 := fo (fun g b => if b = -1 then nI g else if f_liked m g ≤ f_liked m b.toNatClampNeg then b else nI g) (nG m) 0 (-1)
def f_isForlorn (m : Nat → Int32) (h : Nat) : Bool := allB (fun g => allB (fun q => !decide (f_can m h g (nI q))) 8 0) (nG m) 0
def f_forlorn (m : Nat → Int32) : Int32 := if m 4 ≤ 0 then 0 else fo (fun h a => a ||| (if f_isForlorn m h = true then (1 : Int32) <<< (nI h &&& 31) else 0)) (nH m) 0 0
def f_areAlike (m : Nat → Int32) (a b : Nat) : Bool := decide (m (12 + 4 * a) = m (12 + 4 * b)) && allB (fun g => decide (m (67 + 8 * a + g) = m (67 + 8 * b + g))) (nG m) 0
def f_alike (m : Nat → Int32) : Int32 := fo (fun a n => fo (fun b n => n + (if f_areAlike m a b = true then 1 else 0)) (nH m - (a + 1)) (a + 1) n) (nH m) 0 0
section P1
variable {x t : Nat} {V : Nat → Nat → Int32} {m : Nat → Int32} {Q : Int32 → Prop} {Q2 : Int32 → (Nat → Nat → Int32) → Prop}
theorem s1_twice (hW : WRel V (x + 1) m) (hR : RowOk m) (hq : Q (f_twice m)) : wX1_twice x V Q := by
  have hH := hR.H; have h8 := hR.H8; have hG := hR.G; have g8 := hR.G8
  refine fo_loop (fun n a i => wX1_twice_4 x V Q n a (nI i)) _ Q (nG m) ?_ ?_ (nG m) 0 0 (Nat.zero_add _) hq
  · intro n a hP
    rw [wX1_twice_4, hW.guests]
    exact br_t (by rw [hG]; exact Int32.le_refl _) hP
  · intro n a g hi hk
    rw [wX1_twice_4, hW.guests]
    refine br_f (by rw [hG]; exact nI_ge hi (by omega)) ?_
    refine fo_loop (fun n2 b h => wX1_twice_20 x V Q (fun x1 x2 => wX1_twice_4 x V Q n x1 x2) n2 a (nI g) b (nI h)) (fun h n => n + (if isOf (f_sees m h) (nI g) then 1 else 0)) (fun b => wX1_twice_4 x V Q n (a ||| (if b ≤ 1 then 0 else (1 : Int32) <<< (nI g &&& 31))) (nI (g + 1))) (nH m) ?_ ?_ (nH m) 0 0 (Nat.zero_add _) (by unfold f_twiceN at hk; exact hk)
    · intro n2 b hP
      rw [wX1_twice_20, hW.hosts]
      refine br_t (by rw [hH]; exact Int32.le_refl _) (p_ite ?_)
      split
      · next z => rw [if_pos z] at hP; exact nm_e (nm_r (nI_1 g) hP)
      · next z => rw [if_neg z] at hP; exact nm_e (nm_r (nI_1 g) hP)
    · intro n2 b h hh hk
      rw [wX1_twice_20, hW.hosts]
      refine br_f (by rw [hH]; exact nI_ge hh (by omega)) (s2_sees hW h8 hh (s1_has (p_bz ?_)))
      split
      · next z => rw [if_pos z] at hk; exact nm_e (nm_r (nI_1 h) hk)
      · next z => rw [if_neg z] at hk; exact nm_e (nm_r (nI_1 h) hk)
theorem s6_twice (hR : RowOk (V (t + 1))) (hq : Q2 (f_twice (V (t + 1))) (vset V t 0 0)) : wX6_twice t V Q2 := by
  have hH := hR.H; have h8 := hR.H8; have hG := hR.G; have g8 := hR.G8
  unfold wX6_twice
  have e1 : vset V t 0 0 (t + 1) = V (t + 1) := vt1
  rw [← e1] at hq hH h8 hG g8
  generalize vset V t 0 0 = V1 at *
  refine fo_loop (fun n a i => wX6_twice_9 t Q2 n V1 a (nI i)) _ (fun a => Q2 a V1) (nG (V1 (t + 1))) ?_ ?_ (nG (V1 (t + 1))) 0 0 (Nat.zero_add _) hq
  · intro n a hP
    rw [wX6_twice_9]
    exact br_t (by rw [hG]; exact Int32.le_refl _) hP
  · intro n a g hi hk
    rw [wX6_twice_9]
    refine br_f (by rw [hG]; exact nI_ge hi (by omega)) ?_
    refine fo_loop (fun n2 b h => wX6_twice_24 t Q2 (fun V x1 x2 => wX6_twice_9 t Q2 n V x1 x2) n2 V1 a (nI g) b (nI h)) (fun h n => n + (if isOf (f_sees (V1 (t + 1)) h) (nI g) then 1 else 0)) (fun b => wX6_twice_9 t Q2 n V1 (a ||| (if b ≤ 1 then 0 else (1 : Int32) <<< (nI g &&& 31))) (nI (g + 1))) (nH (V1 (t + 1))) ?_ ?_ (nH (V1 (t + 1))) 0 0 (Nat.zero_add _) (by unfold f_twiceN at hk; exact hk)
    · intro n2 b hP
      rw [wX6_twice_24]
      refine br_t (by rw [hH]; exact Int32.le_refl _) (p_ite ?_)
      split
      · next z => rw [if_pos z] at hP; exact nm_e (nm_r (nI_1 g) hP)
      · next z => rw [if_neg z] at hP; exact nm_e (nm_r (nI_1 g) hP)
    · intro n2 b h hh hk
      rw [wX6_twice_24]
      refine br_f (by rw [hH]; exact nI_ge hh (by omega)) (s6_seesOf (by omega) (s6_isOf (p_bz ?_)))
      split
      · next z => rw [if_pos z] at hk; exact nm_e (nm_r (nI_1 h) hk)
      · next z => rw [if_neg z] at hk; exact nm_e (nm_r (nI_1 h) hk)
theorem s1_dearest (hW : WRel V (x + 1) m) (hR : RowOk m) (hq : Q (f_dearest m)) : wX1_dearest x V Q := by
  have hG := hR.G; have g8 := hR.G8
  refine fo_loopI (fun n a i => wX1_dearest_4 x V Q n a (nI i)) _ Q (fun i b => b = -1 ∨ ∃ j, j < i ∧ b = nI j) (nG m) ?_ ?_ ?_ (nG m) 0 (-1) (Nat.zero_add _) (Or.inl rfl) hq
  · intro n a hP
    rw [wX1_dearest_4, hW.guests]
    exact br_t (by rw [hG]; exact Int32.le_refl _) hP
  · intro i a hi h
    split
    · exact Or.inr ⟨i, Nat.lt_succ_self i, rfl⟩
    · split
      · rcases h with h | ⟨j, hj, h⟩
        · exact Or.inl h
        · exact Or.inr ⟨j, by omega, h⟩
      · exact Or.inr ⟨i, Nat.lt_succ_self i, rfl⟩
  · intro n a g hi hI hk
    rw [wX1_dearest_4, hW.guests]
    refine br_f (by rw [hG]; exact nI_ge hi (by omega)) (p_ite ?_)
    split
    · next z => rw [if_pos z] at hk; exact nm_r (nI_1 g) hk
    · next z =>
      rw [if_neg z] at hk
      rcases hI with h | ⟨j, hj, rfl⟩
      · exact absurd h z
      · rw [cl8 (show j < 8 by omega)] at hk
        refine s1_likedBy hW hR hi (s1_likedBy hW hR (by omega) (p_ite ?_))
        split
        · next z2 => rw [if_pos z2] at hk; exact nm_r (nI_1 g) hk
        · next z2 => rw [if_neg z2] at hk; exact nm_r (nI_1 g) hk
theorem s6_dearest (hR : RowOk (V (t + 1))) (hq : Q2 (f_dearest (V (t + 1))) (vset V t 0 0)) : wX6_dearest t V Q2 := by
  unfold wX6_dearest
  have e1 : vset V t 0 0 (t + 1) = V (t + 1) := vt1
  rw [← e1] at hq hR
  generalize vset V t 0 0 = V1 at *
  have hG := hR.G; have g8 := hR.G8
  refine fo_loopI (fun n a i => wX6_dearest_9 t Q2 n V1 a (nI i)) _ (fun a => Q2 a V1) (fun i b => b = -1 ∨ ∃ j, j < i ∧ b = nI j) (nG (V1 (t + 1))) ?_ ?_ ?_ (nG (V1 (t + 1))) 0 (-1) (Nat.zero_add _) (Or.inl rfl) hq
  · intro n a hP
    rw [wX6_dearest_9]
    exact br_t (by rw [hG]; exact Int32.le_refl _) hP
  · intro i a hi h
    split
    · exact Or.inr ⟨i, Nat.lt_succ_self i, rfl⟩
    · split
      · rcases h with h | ⟨j, hj, h⟩
        · exact Or.inl h
        · exact Or.inr ⟨j, by omega, h⟩
      · exact Or.inr ⟨i, Nat.lt_succ_self i, rfl⟩
  · intro n a g hi hI hk
    rw [wX6_dearest_9]
    refine br_f (by rw [hG]; exact nI_ge hi (by omega)) (p_ite ?_)
    split
    · next z => rw [if_pos z] at hk; exact nm_r (nI_1 g) hk
    · next z =>
      rw [if_neg z] at hk
      rcases hI with h | ⟨j, hj, rfl⟩
      · exact absurd h z
      · rw [cl8 (show j < 8 by omega)] at hk
        refine s6_likedOf (by omega) hR (s6_likedOf (by omega) hR (p_ite ?_))
        split
        · next z2 => rw [if_pos z2] at hk; exact nm_r (nI_1 g) hk
        · next z2 => rw [if_neg z2] at hk; exact nm_r (nI_1 g) hk
theorem s1_isForlorn {h : Nat} (hW : WRel V (x + 1) m) (hR : RowOk m) (hh : h < nH m) (hq : Q (b2i (f_isForlorn m h = true))) : wX1_isForlorn x V (nI h) Q := by
  have hG := hR.G; have g8 := hR.G8; have h8 := hR.H8
  refine all_loop (fun n i => wX1_isForlorn_2 x V (nI h) Q n (nI i)) _ (Q 1) (Q 0) (nG m) ?_ ?_ (nG m) 0 (Nat.zero_add _) (b2i_if hq)
  · intro n hP
    rw [wX1_isForlorn_2, hW.guests]
    exact br_t (by rw [hG]; exact Int32.le_refl _) hP
  · intro n g hi hk
    rw [wX1_isForlorn_2, hW.guests]
    refine br_f (by rw [hG]; exact nI_ge hi (by omega)) ?_
    refine all_loop (fun n2 q => wX1_isForlorn_15 x V (nI h) Q (fun x2 => wX1_isForlorn_2 x V (nI h) Q n x2) n2 (nI g) (nI q)) _ (wX1_isForlorn_2 x V (nI h) Q n (nI (g + 1))) (Q 0) 8 ?_ ?_ 8 0 rfl hk
    · intro n2 hP
      rw [wX1_isForlorn_15]
      exact br_t (by decide) (nm_r (nI_1 g) hP)
    · intro n2 q hq2 hk
      rw [wX1_isForlorn_15]
      refine br_f (nI_ge hq2 (by decide)) (s2_can hW h8 g8 hh hi (p_bz ?_))
      split
      · next z => rw [decide_eq_true z] at hk; exact hk
      · next z => rw [decide_eq_false z] at hk; exact nm_r (nI_1 q) hk
end P1
