/-! ===== PURE: weeks, told plainly; the twin's log, its weeks ===== -/
def lim (c v : Int32) : Int32 := if v ≤ c then v else c
def logR (m : Nat → Int32) (h g q w j : Int32) : Nat → Int32 := fun k => if k = 9 then lim 60 (m 9 + 1) else if k = 259 then m 6 else if k = 260 then h else if k = 261 then g else if k = 262 then q else if k = 263 then w else if k = 264 then j else if 264 < k ∧ k < 619 then m (k - 6) else m k
def logB (told : Bool) (m : Nat → Int32) (h g q w j : Int32) : Nat → Int32 := if told = true then logR m h g q w j else m
def metR (told : Bool) (m : Nat → Int32) (law : Option (List Ln)) (h q : Nat) : Nat → Int32 := logB told (upd m (13 + 4 * h) (lim 999 (m (13 + 4 * h) + f_joy m law h (gOf m h q) q))) (nI h) (m (195 + 8 * h + q)) (nI q) 0 (f_joy m law h (gOf m h q) q)
/-- a quarter for a host: the row, who met, how many -/
def meetS (told : Bool) (law : Option (List Ln)) (q h : Nat) (z : (Nat → Int32) × Int32 × Int32) : (Nat → Int32) × Int32 × Int32 := if f_would z.1 law h q = true then (metR told z.1 law h q, z.2.1 ||| ((1 : Int32) <<< (nI h &&& 31)), z.2.2 + 1) else z
def clr (m : Nat → Int32) (h : Nat) : Nat → Int32 := fun j => if 195 + 8 * h ≤ j ∧ j < 203 + 8 * h then -1 else m j
def lonR (m : Nat → Int32) (h : Nat) (met : Int32) : Int32 := if isOf met (nI h) then 0 else lim 99 (m (14 + 4 * h) + 1)
/-- the end of a week for a host: the row, who settled -/
def closeS (told : Bool) (met : Int32) (h : Nat) (z : (Nat → Int32) × Int32) : (Nat → Int32) × Int32 := if z.1 (11 + 4 * h) < lonR z.1 h met then (logB told (upd (clr (upd z.1 (14 + 4 * h) (lonR z.1 h met)) h) (14 + 4 * h) 0) (nI h) (-1) (-1) 1 0, z.2 ||| ((1 : Int32) <<< (nI h &&& 31))) else (upd z.1 (14 + 4 * h) (lonR z.1 h met), z.2)
def drawN (s : Int32) : Int32 := (1103515245 : Int32) * s + 12345
def drawV (s : Int32) : Int32 := (((drawN s).toUInt32 >>> ((16 : Int32).toUInt32 &&& Int32.toUInt32 31)).toInt32 &&& 32767) - (((drawN s).toUInt32 >>> ((16 : Int32).toUInt32 &&& Int32.toUInt32 31)).toInt32 &&& 32767) / 100 * 100
/-- a quarter: the row, who met in this week, how many meetings -/
def quartS (told : Bool) (draws : Bool) (law : Option (List Ln)) (q : Nat) (z : (Nat → Int32) × Int32 × Int32) : (Nat → Int32) × Int32 × Int32 :=
  if draws = true ∧ drawV (z.1 10) < z.1 5 then (upd z.1 10 (drawN (z.1 10)), z.2) else
    fo (meetS told law q) (nH z.1) 0 (if draws = true then upd z.1 10 (drawN (z.1 10)) else z.1, z.2)
def weekS (told : Bool) (draws : Bool) (law : Option (List Ln)) (_ : Nat) (z : (Nat → Int32) × Int32 × Int32) : (Nat → Int32) × Int32 × Int32 :=
  let a := fo (quartS told draws law) 8 0 (z.1, 0, z.2.1)
  let b := fo (closeS told a.2.1) (nH z.1) 0 (a.1, z.2.2)
  (upd b.1 6 (lim 9999 (b.1 6 + 1)), a.2.2, b.2)
/-- n weeks: the row, how many meetings, who settled -/
def weeksR (told : Bool) (draws : Bool) (law : Option (List Ln)) (n : Nat) (m : Nat → Int32) : (Nat → Int32) × Int32 × Int32 := fo (weekS told draws law) n 0 (m, 0, 0)
/-! ===== rows stay rows ===== -/
theorem upd_n {m : Nat → Int32} {i j : Nat} {v : Int32} (h : j ≠ i) : upd m i v j = m j := pk_un h
theorem upd_s {m : Nat → Int32} {i : Nat} {v : Int32} : upd m i v i = v := pk_us
/-- rows that agree where a row is looked at -/
def Same (m m2 : Nat → Int32) : Prop := ∀ j, (j < 13 ∧ j ≠ 9 ∧ j ≠ 6 ∧ j ≠ 10 ∧ j ≠ 1 ∧ j ≠ 2) ∨ (11 ≤ j ∧ j < 43 ∧ (j - 11) % 4 < 2) ∨ (43 ≤ j ∧ j < 195) → m2 j = m j
theorem Same.nH {m m2 : Nat → Int32} (h : Same m m2) : nH m2 = nH m := by unfold Jvm.Pilot.CVisitingHoursLaw_law_r9753_46f0f5.nH; rw [h 3 (by omega)]
theorem Same.nG {m m2 : Nat → Int32} (h : Same m m2) : nG m2 = nG m := by unfold Jvm.Pilot.CVisitingHoursLaw_law_r9753_46f0f5.nG; rw [h 4 (by omega)]
theorem RowOk.same {m m2 : Nat → Int32} (hR : RowOk m) (h : Same m m2) (hb : ∀ h q, h < 8 → q < 8 → m2 (195 + 8 * h + q) = -1 ∨ m2 (195 + 8 * h + q) = m (195 + 8 * h + q)) (h9 : ∃ r, r ≤ 60 ∧ m2 9 = nI r) : RowOk m2 := by
  have eH := h.nH
  have eG := h.nG
  obtain ⟨⟨a1, a2, a3, a4⟩, b1, b2, b3, b4, b5, c1, c2, c3, c4, c5, d1, d2, d3⟩ := hR
  refine ⟨⟨by rw [eH, h 3 (by omega)]; exact a1, by rw [eH]; exact a2, by rw [eG, h 4 (by omega)]; exact a3, by rw [eG]; exact a4⟩, fun k hk => by rw [h _ (by omega)]; exact b1 k hk, fun k hk => by rw [h _ (by omega)]; exact b2 k hk, fun i j hi hj hij => ?_, fun i j hi hj => ?_, fun i j hi hi8 hj => ?_, fun i hi => ?_, fun i hi => ?_, fun i hi => ?_, fun i hi => ?_, fun i hi => ?_, h9, by rw [h 5 (by omega)]; exact d2, by rw [h 0 (by omega)]; exact d3⟩
  · rw [eH, eG] at hij
    rw [h _ (by omega), h _ (by omega)]
    exact b3 i j hi hj hij
  · rw [eG]
    rcases hb i j hi hj with z | z
    · exact Or.inl z
    · rw [z]; exact b4 i j hi hj
  · rw [eH] at hi
    rcases hb i j hi8 hj with z | z
    · exact z
    · rw [z]; exact b5 i j hi hi8 hj
  · rw [eH] at hi
    rw [h _ (by omega)]; exact c1 i hi
  · rw [eH] at hi
    rw [h _ (by omega)]; exact c2 i hi
  · rw [eG] at hi
    rw [h _ (by omega)]; exact c3 i hi
  · rw [eG] at hi
    rw [h _ (by omega)]; exact c4 i hi
  · rw [eG] at hi
    rw [h _ (by omega)]; exact c5 i hi
theorem Same.refl {m : Nat → Int32} : Same m m := fun _ _ => rfl
theorem Same.trans {a b c : Nat → Int32} (h : Same a b) (h2 : Same b c) : Same a c := fun j hj => (h2 j hj).trans (h j hj)
theorem log_j {m : Nat → Int32} {h g q w j : Int32} {k : Nat} (hk : k ≠ 9 ∧ (k < 259 ∨ 619 ≤ k)) : logR m h g q w j k = m k := by
  unfold logR
  rw [if_neg hk.1, if_neg (by omega), if_neg (by omega), if_neg (by omega), if_neg (by omega), if_neg (by omega), if_neg (by omega), if_neg (by omega)]
theorem logB_j {told : Bool} {m : Nat → Int32} {h g q w j : Int32} {k : Nat} (hk : k ≠ 9 ∧ (k < 259 ∨ 619 ≤ k)) : logB told m h g q w j k = m k := by
  unfold logB
  split
  · exact log_j hk
  · rfl
theorem logB_9 {told : Bool} {m : Nat → Int32} {h g q w j : Int32} (hm : ∃ r, r ≤ 60 ∧ m 9 = nI r) : ∃ r, r ≤ 60 ∧ logB told m h g q w j 9 = nI r := by
  unfold logB
  split
  · obtain ⟨r, hr, e⟩ := hm
    show ∃ r, r ≤ 60 ∧ lim 60 (m 9 + 1) = nI r
    unfold lim
    rw [e, nI_1]
    split
    · next z => exact ⟨r + 1, (nI_leI (b := 60) (by omega) (by decide)).mp z, rfl⟩
    · exact ⟨60, Nat.le_refl _, rfl⟩
  · exact hm
/-- what a step of a week leaves as it is -/
def WkS (m m2 : Nat → Int32) : Prop := Same m m2 ∧ m2 1 = m 1 ∧ m2 2 = m 2 ∧ (∀ j, 619 ≤ j → m2 j = m j) ∧ (∀ h q, h < 8 → q < 8 → m2 (195 + 8 * h + q) = -1 ∨ m2 (195 + 8 * h + q) = m (195 + 8 * h + q)) ∧ ((∃ r, r ≤ 60 ∧ m 9 = nI r) → ∃ r, r ≤ 60 ∧ m2 9 = nI r)
theorem WkS.refl {m : Nat → Int32} : WkS m m := ⟨Same.refl, rfl, rfl, fun _ _ => rfl, fun _ _ _ _ => Or.inr rfl, fun z => z⟩
theorem WkS.trans {a b c : Nat → Int32} (h : WkS a b) (h2 : WkS b c) : WkS a c := ⟨h.1.trans h2.1, h2.2.1.trans h.2.1, h2.2.2.1.trans h.2.2.1, fun j hj => (h2.2.2.2.1 j hj).trans (h.2.2.2.1 j hj), fun i q hi hq => by
  rcases h2.2.2.2.2.1 i q hi hq with z | z
  · exact Or.inl z
  · rw [z]; exact h.2.2.2.2.1 i q hi hq, fun z => h2.2.2.2.2.2 (h.2.2.2.2.2 z)⟩
theorem WkS.row {m m2 : Nat → Int32} (h : WkS m m2) (hR : RowOk m) : RowOk m2 := hR.same h.1 h.2.2.2.2.1 (h.2.2.2.2.2 hR.2.2.2.2.2.2.2.2.2.2.2.1)
theorem WkS.law {m m2 : Nat → Int32} {law : Option (List Ln)} (h : WkS m m2) (hL : LawT m law) : LawT m2 law := by
  rcases law with _ | ls
  · exact h.2.1.trans hL
  · obtain ⟨T, L, e, h1, h2, h3, h4, h5⟩ := hL
    exact ⟨T, L, e, h1, h.2.1.trans h2, h.2.2.1.trans h3, fun i hi => ⟨(h4 i hi).1, (h.2.2.2.1 _ (by omega)).trans (h4 i hi).2⟩, h5⟩
theorem wk_upd {m : Nat → Int32} {i : Nat} {v : Int32} (hi : i = 6 ∨ i = 10 ∨ (11 ≤ i ∧ i < 43 ∧ 2 ≤ (i - 11) % 4)) : WkS m (upd m i v) := by
  refine ⟨fun j hj => upd_n (by omega), upd_n (by omega), upd_n (by omega), fun j hj => upd_n (by omega), fun h q hh hq => Or.inr (upd_n (by omega)), fun z => ?_⟩
  rw [upd_n (by omega)]
  exact z
theorem wk_log {told : Bool} {m : Nat → Int32} {h g q w j : Int32} : WkS m (logB told m h g q w j) :=
  ⟨fun k hk => logB_j (by omega), logB_j (by omega), logB_j (by omega), fun k hk => logB_j (by omega), fun i k hi hk => Or.inr (logB_j (by omega)), fun z => logB_9 z⟩
theorem wk_clr {m : Nat → Int32} {h : Nat} (hh : h < 8) : WkS m (clr m h) := by
  refine ⟨fun j hj => if_neg (by omega), if_neg (by omega), if_neg (by omega), fun j hj => if_neg (by omega), fun i q hi hq => ?_, fun z => ?_⟩
  · unfold clr
    split
    · exact Or.inl rfl
    · exact Or.inr rfl
  · rw [show clr m h 9 = m 9 from if_neg (by omega)]; exact z
theorem wk_met {told : Bool} {m : Nat → Int32} {law : Option (List Ln)} {h q : Nat} (hh : h < 8) : WkS m (metR told m law h q) := (wk_upd (Or.inr (Or.inr (by omega)))).trans wk_log
theorem wk_meetS {told : Bool} {law : Option (List Ln)} {q h : Nat} {z : (Nat → Int32) × Int32 × Int32} (hh : h < 8) : WkS z.1 (meetS told law q h z).1 := by
  unfold meetS
  split
  · exact wk_met hh
  · exact WkS.refl
theorem wk_closeS {told : Bool} {met : Int32} {h : Nat} {z : (Nat → Int32) × Int32} (hh : h < 8) : WkS z.1 (closeS told met h z).1 := by
  unfold closeS
  split
  · exact (((wk_upd (Or.inr (Or.inr (by omega)))).trans (wk_clr hh)).trans (wk_upd (Or.inr (Or.inr (by omega))))).trans wk_log
  · exact wk_upd (Or.inr (Or.inr (by omega)))
theorem wk_fo {α : Type} {f : α → (Nat → Int32)} {st : Nat → α → α} {N : Nat} (h : ∀ i a, i < N → WkS (f a) (f (st i a))) : ∀ (k i : Nat) (a : α), i + k ≤ N → WkS (f a) (f (fo st k i a)) := by
  intro k
  induction k with
  | zero => intro i a _; exact WkS.refl
  | succ k ih => intro i a hi; exact (h i a (by omega)).trans (ih (i + 1) _ (by omega))
theorem wk_quart {told draws : Bool} {law : Option (List Ln)} {q : Nat} {z : (Nat → Int32) × Int32 × Int32} (h8 : nH z.1 ≤ 8) : WkS z.1 (quartS told draws law q z).1 := by
  unfold quartS
  split
  · exact wk_upd (Or.inr (Or.inl rfl))
  · have h1 : WkS z.1 (if draws = true then upd z.1 10 (drawN (z.1 10)) else z.1) := by
      split
      · exact wk_upd (Or.inr (Or.inl rfl))
      · exact WkS.refl
    exact h1.trans (wk_fo (f := fun z : (Nat → Int32) × Int32 × Int32 => z.1) (N := 8) (fun i a hi => wk_meetS hi) _ _ _ (by omega))
theorem wk_week {told draws : Bool} {law : Option (List Ln)} {i : Nat} {z : (Nat → Int32) × Int32 × Int32} (h8 : nH z.1 ≤ 8) : WkS z.1 (weekS told draws law i z).1 := by
  have h1 : ∀ (k i : Nat) (a : (Nat → Int32) × Int32 × Int32), nH a.1 ≤ 8 → WkS a.1 (fo (quartS told draws law) k i a).1 := by
    intro k
    induction k with
    | zero => intro i a _; exact WkS.refl
    | succ k ih =>
      intro i a ha
      have h2 := wk_quart (told := told) (draws := draws) (law := law) (q := i) ha
      exact h2.trans (ih (i + 1) _ (by rw [h2.1.nH]; exact ha))
  have h2 := h1 8 0 (z.1, 0, z.2.1) h8
  have h3 := wk_fo (f := fun z : (Nat → Int32) × Int32 => z.1) (st := closeS told (fo (quartS told draws law) 8 0 (z.1, 0, z.2.1)).2.1) (N := 8) (fun i a hi => wk_closeS hi) (nH z.1) 0 ((fo (quartS told draws law) 8 0 (z.1, 0, z.2.1)).1, z.2.2) (by omega)
  exact (h2.trans h3).trans (wk_upd (Or.inl rfl))
theorem wk_weeks {told draws : Bool} {law : Option (List Ln)} : ∀ (k i : Nat) (z : (Nat → Int32) × Int32 × Int32), nH z.1 ≤ 8 → WkS z.1 (fo (weekS told draws law) k i z).1 := by
  intro k
  induction k with
  | zero => intro i a _; exact WkS.refl
  | succ k ih =>
    intro i a ha
    have h2 := wk_week (told := told) (draws := draws) (law := law) (i := i) ha
    exact h2.trans (ih (i + 1) _ (by rw [h2.1.nH]; exact ha))
