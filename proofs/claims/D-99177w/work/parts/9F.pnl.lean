/-! ===== PURE: rows that differ in the log alone ===== -/
def NL (m m2 : Nat → Int32) : Prop := ∀ j, j ≠ 9 → (j < 259 ∨ 619 ≤ j) → m2 j = m j
theorem rel_fo {α β : Type} {Rl : α → β → Prop} {s1 : Nat → α → α} {s2 : Nat → β → β} {N : Nat} (h : ∀ i a b, i < N → Rl a b → Rl (s1 i a) (s2 i b)) : ∀ (k i : Nat) (a : α) (b : β), i + k ≤ N → Rl a b → Rl (fo s1 k i a) (fo s2 k i b) := by
  intro k
  induction k with
  | zero => intro i a b _ hr; exact hr
  | succ k ih => intro i a b hi hr; exact ih (i + 1) _ _ (by omega) (h i a b (by omega) hr)
section NN
variable {m m2 : Nat → Int32} {law : Option (List Ln)} {h g q : Nat} {told told2 draws : Bool}
theorem NL.refl : NL m m := fun _ _ _ => rfl
theorem NL.upd {k : Nat} {v : Int32} (hn : NL m m2) : NL (upd m k v) (upd m2 k v) := fun j h1 h2 => by
  show (if j = k then v else m2 j) = (if j = k then v else m j)
  split
  · rfl
  · exact hn j h1 h2
theorem NL.log {a b c d e a2 b2 c2 d2 e2 : Int32} (hn : NL m m2) : NL (logB told m a b c d e) (logB told2 m2 a2 b2 c2 d2 e2) := fun j h1 h2 => by
  rw [logB_j ⟨h1, h2⟩, logB_j ⟨h1, h2⟩]
  exact hn j h1 h2
theorem NL.clr (hn : NL m m2) : NL (clr m h) (clr m2 h) := fun j h1 h2 => by
  unfold Jvm.Pilot.CVisitingHoursLaw_law_r9753_46f0f5.clr
  split
  · rfl
  · exact hn j h1 h2
theorem NL.H (hn : NL m m2) : nH m2 = nH m := nH_e (hn 3 (by decide) (by omega))
theorem NL.G (hn : NL m m2) : nG m2 = nG m := nG_e (hn 4 (by decide) (by omega))
theorem nl_marked (hn : NL m m2) {v : Int32} : f_marked m2 v ↔ f_marked m v := by
  show (v &&& m2 7) = m2 7 ∧ (v &&& m2 8) = 0 ↔ (v &&& m 7) = m 7 ∧ (v &&& m 8) = 0
  rw [hn 7 (by decide) (by omega), hn 8 (by decide) (by omega)]
theorem nl_Fsc (hn : NL m m2) (hh : h < 8) (hg : g < 8) (hq : q < 8) : Fsc m2 h g q = Fsc m h g q := by
  have em : b2i (f_marked m2 (m2 (45 + 3 * g))) = b2i (f_marked m (m (45 + 3 * g))) := by
    rw [hn (45 + 3 * g) (by omega) (by omega)]
    unfold b2i
    by_cases z : f_marked m (m (45 + 3 * g))
    · rw [if_pos z, if_pos ((nl_marked hn).mpr z)]
    · rw [if_neg z, if_neg (fun w => z ((nl_marked hn).mp w))]
  funext j
  match j with
  | 0 => rfl
  | 1 => rfl
  | 2 => rfl
  | 3 => exact hn _ (by omega) (by omega)
  | 4 => exact hn _ (by omega) (by omega)
  | 5 => exact hn _ (by omega) (by omega)
  | 6 => exact hn _ (by omega) (by omega)
  | 7 => exact em
  | j + 8 =>
    show b2i (m2 (195 + 8 * h + q) = nI g) = b2i (m (195 + 8 * h + q) = nI g)
    rw [hn (195 + 8 * h + q) (by omega) (by omega)]
theorem nl_ask (hn : NL m m2) (hh : h < 8) (hg : g < 8) (hq : q < 8) : f_ask m2 law h g q = f_ask m law h g q := by
  unfold f_ask
  rw [nl_Fsc hn hh hg hq]
theorem nl_joy (hn : NL m m2) (hh : h < 8) (hg : g < 8) (hq : q < 8) : f_joy m2 law h g q = f_joy m law h g q := by
  unfold f_joy
  rw [nl_ask hn hh hg hq, hn (67 + 8 * h + g) (by omega) (by omega)]
theorem nl_lets (hn : NL m m2) (hh : h < 8) (hg : g < 8) (hq : q < 8) : f_lets m2 law h g q = f_lets m law h g q := by
  unfold f_lets
  rw [nl_ask hn hh hg hq, hn (45 + 3 * g) (by omega) (by omega)]
  congr 1
  exact decide_eq_decide.mpr (nl_marked hn)
theorem nl_can (hn : NL m m2) (hh : h < 8) (hg : g < 8) {c : Int32} : f_can m2 h g c ↔ f_can m h g c := by
  show isOf (m2 (12 + 4 * h) &&& m2 (44 + 3 * g)) c ∧ f_may m2 h g ↔ isOf (m (12 + 4 * h) &&& m (44 + 3 * g)) c ∧ f_may m h g
  unfold f_may
  rw [hn (12 + 4 * h) (by omega) (by omega), hn (44 + 3 * g) (by omega) (by omega), hn (67 + 8 * h + g) (by omega) (by omega), hn (131 + 8 * g + h) (by omega) (by omega)]
theorem nl_g (hn : NL m m2) (hh : h < 8) (hq : q < 8) : gOf m2 h q = gOf m h q := by
  unfold gOf
  rw [hn (195 + 8 * h + q) (by omega) (by omega)]
theorem nl_would (hR : RowOk m) (hn : NL m m2) (hh : h < 8) (hq : q < 8) : f_would m2 law h q = f_would m law h q := by
  have eb := hn (195 + 8 * h + q) (by omega) (by omega)
  unfold f_would
  rw [eb]
  refine decide_eq_decide.mpr ⟨fun ⟨a, b, c⟩ => ?_, fun ⟨a, b, c⟩ => ?_⟩
  · obtain ⟨g, hg, hge⟩ := (hR.2.2.2.2.1 h q hh hq).resolve_left a
    have hg8 : g < 8 := by have := hR.G8; omega
    rw [hge, nI_clamp (by omega)] at b c ⊢
    exact ⟨by rw [← hge]; exact a, (nl_can hn hh hg8).mp b, by rw [← nl_lets hn hh hg8 hq]; exact c⟩
  · obtain ⟨g, hg, hge⟩ := (hR.2.2.2.2.1 h q hh hq).resolve_left a
    have hg8 : g < 8 := by have := hR.G8; omega
    rw [hge, nI_clamp (by omega)] at b c ⊢
    exact ⟨by rw [← hge]; exact a, (nl_can hn hh hg8).mpr b, by rw [nl_lets hn hh hg8 hq]; exact c⟩
/-- two states of a week, alike but for the log -/
def RN {β : Type} (z z2 : (Nat → Int32) × β) : Prop := NL z.1 z2.1 ∧ z2.2 = z.2 ∧ RowOk z.1 ∧ RowOk z2.1
theorem rn_meet {z z2 : (Nat → Int32) × Int32 × Int32} (hr : RN z z2) (hh : h < 8) (hq : q < 8) : RN (meetS told law q h z) (meetS told2 law q h z2) := by
  obtain ⟨a, b, c, d⟩ := hr
  have e := nl_would (law := law) c a hh hq
  refine ⟨?_, ?_, (wk_meetS hh).row c, (wk_meetS hh).row d⟩
  · unfold meetS
    rw [e]
    by_cases w : f_would z.1 law h q = true
    · rw [if_pos w, if_pos w]
      have hg := would_g c hh hq w
      have hg8 : gOf z.1 h q < 8 := by have := c.G8; omega
      show NL (metR told z.1 law h q) (metR told2 z2.1 law h q)
      unfold metR
      rw [nl_g a hh hq, nl_joy a hh hg8 hq, a (13 + 4 * h) (by omega) (by omega)]
      exact a.upd.log
    · rw [if_neg w, if_neg w]
      exact a
  · unfold meetS
    rw [e]
    by_cases w : f_would z.1 law h q = true
    · rw [if_pos w, if_pos w, b]
    · rw [if_neg w, if_neg w, b]
theorem rn_close {met : Int32} {z z2 : (Nat → Int32) × Int32} (hr : RN z z2) (hh : h < 8) : RN (closeS told met h z) (closeS told2 met h z2) := by
  obtain ⟨a, b, c, d⟩ := hr
  have el : lonR z2.1 h met = lonR z.1 h met := by
    unfold lonR
    rw [a (14 + 4 * h) (by omega) (by omega)]
  have ep := a (11 + 4 * h) (by omega) (by omega)
  refine ⟨?_, ?_, (wk_closeS hh).row c, (wk_closeS hh).row d⟩
  · unfold closeS
    rw [el, ep]
    by_cases w : z.1 (11 + 4 * h) < lonR z.1 h met
    · rw [if_pos w, if_pos w]
      exact (NL.upd (NL.clr (NL.upd a))).log
    · rw [if_neg w, if_neg w]
      exact a.upd
  · unfold closeS
    rw [el, ep, b]
    by_cases w : z.1 (11 + 4 * h) < lonR z.1 h met
    · rw [if_pos w, if_pos w]
    · rw [if_neg w, if_neg w]
theorem rn_quart {z z2 : (Nat → Int32) × Int32 × Int32} (hr : RN z z2) (hq : q < 8) : RN (quartS told draws law q z) (quartS told2 draws law q z2) := by
  obtain ⟨a, b, c, d⟩ := hr
  have e10 := a 10 (by decide) (by omega)
  have e5 := a 5 (by decide) (by omega)
  unfold quartS
  rw [e10, e5]
  by_cases w : draws = true ∧ drawV (z.1 10) < z.1 5
  · rw [if_pos w, if_pos w]
    exact ⟨a.upd, b, (wk_upd (Or.inr (Or.inl rfl))).row c, (wk_upd (Or.inr (Or.inl rfl))).row d⟩
  · rw [if_neg w, if_neg w, a.H]
    refine rel_fo (Rl := RN) (N := 8) (s1 := meetS told law q) (s2 := meetS told2 law q) (fun i x y hi hxy => rn_meet hxy hi hq) (nH z.1) 0 _ _ (by have := c.H8; omega) ?_
    refine ⟨?_, b, ?_, ?_⟩
    · show NL (if draws = true then _ else _) (if draws = true then _ else _)
      split
      · exact a.upd
      · exact a
    · show RowOk (if draws = true then _ else _)
      split
      · exact (wk_upd (Or.inr (Or.inl rfl))).row c
      · exact c
    · show RowOk (if draws = true then _ else _)
      split
      · exact (wk_upd (Or.inr (Or.inl rfl))).row d
      · exact d
theorem rn_week {i j : Nat} {z z2 : (Nat → Int32) × Int32 × Int32} (hr : RN z z2) : RN (weekS told draws law i z) (weekS told2 draws law j z2) := by
  obtain ⟨a, b, c, d⟩ := hr
  have h1 : RN (fo (quartS told draws law) 8 0 (z.1, 0, z.2.1)) (fo (quartS told2 draws law) 8 0 (z2.1, 0, z2.2.1)) := rel_fo (Rl := RN) (N := 8) (s1 := quartS told draws law) (s2 := quartS told2 draws law) (fun i x y hi hxy => rn_quart hxy hi) 8 0 _ _ (by decide) ⟨a, by show (_, _) = (_, _); rw [b], c, d⟩
  have h2 : RN (fo (closeS told (fo (quartS told draws law) 8 0 (z.1, 0, z.2.1)).2.1) (nH z.1) 0 ((fo (quartS told draws law) 8 0 (z.1, 0, z.2.1)).1, z.2.2)) (fo (closeS told2 (fo (quartS told2 draws law) 8 0 (z2.1, 0, z2.2.1)).2.1) (nH z2.1) 0 ((fo (quartS told2 draws law) 8 0 (z2.1, 0, z2.2.1)).1, z2.2.2)) := by
    rw [h1.2.1, a.H]
    exact rel_fo (Rl := RN) (N := 8) (s1 := closeS told _) (s2 := closeS told2 _) (fun i x y hi hxy => rn_close hxy hi) (nH z.1) 0 _ _ (by have := c.H8; omega) ⟨h1.1, by show z2.2.2 = z.2.2; rw [b], h1.2.2.1, h1.2.2.2⟩
  have e6 := h2.1 6 (by decide) (by omega)
  refine ⟨?_, ?_, ?_, ?_⟩
  · show NL (upd _ 6 _) (upd _ 6 _)
    rw [e6]
    exact h2.1.upd
  · exact Prod.ext (congrArg Prod.snd h1.2.1) h2.2.1
  · exact (wk_upd (Or.inl rfl)).row h2.2.2.1
  · exact (wk_upd (Or.inl rfl)).row h2.2.2.2
theorem rn_weeks {n : Nat} (hR : RowOk m) : RN (weeksR told draws law n m) (weeksR told2 draws law n m) :=
  rel_fo (Rl := RN) (N := n) (s1 := weekS told draws law) (s2 := weekS told2 draws law) (fun i x y _ hxy => rn_week hxy) n 0 _ _ (by omega) ⟨NL.refl, rfl, hR, hR⟩
theorem nl_glad (hn : NL m m2) (h8 : nH m ≤ 8) : f_gladness m2 = f_gladness m := by
  unfold f_gladness
  rw [hn.H]
  exact fo_congr _ _ _ (fun j b h1 h2 => by rw [hn (13 + 4 * j) (by omega) (by omega)])
/-- how many met before is kept apart -/
theorem meet_offn : ∀ (k i : Nat) (m : Nat → Int32) (s n0 n : Int32), fo (meetS told law q) k i (m, s, n0 + n) = ((fo (meetS told law q) k i (m, s, n)).1, (fo (meetS told law q) k i (m, s, n)).2.1, n0 + (fo (meetS told law q) k i (m, s, n)).2.2) := by
  intro k i m s n0 n
  have h9 := meet_off (told := told) (law := law) (q := q) k i m 0 n0 s n
  rw [Int32.zero_or, Int32.zero_or] at h9
  exact h9
theorem quart_off {z : (Nat → Int32) × Int32 × Int32} {n0 : Int32} : quartS told draws law q (z.1, z.2.1, n0 + z.2.2) = ((quartS told draws law q z).1, (quartS told draws law q z).2.1, n0 + (quartS told draws law q z).2.2) := by
  unfold quartS
  by_cases w : draws = true ∧ drawV (z.1 10) < z.1 5
  · rw [if_pos w, if_pos (show draws = true ∧ drawV ((z.1, z.2.1, n0 + z.2.2).1 10) < (z.1, z.2.1, n0 + z.2.2).1 5 from w)]
  · rw [if_neg w, if_neg (show ¬ (draws = true ∧ drawV ((z.1, z.2.1, n0 + z.2.2).1 10) < (z.1, z.2.1, n0 + z.2.2).1 5) from w)]
    exact meet_offn _ _ _ _ _ _
theorem quarts_off {n0 : Int32} : ∀ (k i : Nat) (z : (Nat → Int32) × Int32 × Int32), fo (quartS told draws law) k i (z.1, z.2.1, n0 + z.2.2) = ((fo (quartS told draws law) k i z).1, (fo (quartS told draws law) k i z).2.1, n0 + (fo (quartS told draws law) k i z).2.2) := by
  intro k
  induction k with
  | zero => intro i z; rfl
  | succ k ih =>
    intro i z
    show fo (quartS told draws law) k (i + 1) (quartS told draws law i (z.1, z.2.1, n0 + z.2.2)) = _
    rw [quart_off]
    exact ih (i + 1) (quartS told draws law i z)
theorem week_off {i j : Nat} {n0 n st : Int32} : weekS told draws law i (m, n0 + n, st) = ((weekS told draws law j (m, n, st)).1, n0 + (weekS told draws law j (m, n, st)).2.1, (weekS told draws law j (m, n, st)).2.2) := by
  have h9 := quarts_off (told := told) (draws := draws) (law := law) (n0 := n0) 8 0 (m, 0, n)
  have h8 : fo (quartS told draws law) 8 0 (m, 0, n0 + n) = ((fo (quartS told draws law) 8 0 (m, 0, n)).1, (fo (quartS told draws law) 8 0 (m, 0, n)).2.1, n0 + (fo (quartS told draws law) 8 0 (m, 0, n)).2.2) := h9
  unfold weekS
  show (_, _, _) = (_, _, _)
  simp only []
  rw [h8]
end NN
