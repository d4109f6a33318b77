/-! ===== PURE: rules and send, the answers ===== -/
theorem pc_12 (r : Nat) : pc r ≤ 12 := by
  show 0 + r / 2 ^ 0 % 2 + r / 2 ^ 1 % 2 + r / 2 ^ 2 % 2 + r / 2 ^ 3 % 2 + r / 2 ^ 4 % 2 + r / 2 ^ 5 % 2 + r / 2 ^ 6 % 2 + r / 2 ^ 7 % 2 + r / 2 ^ 8 % 2 + r / 2 ^ 9 % 2 + r / 2 ^ 10 % 2 + r / 2 ^ 11 % 2 ≤ 12
  have a := fun k => Nat.mod_lt (r / 2 ^ k) (show 0 < 2 by decide)
  have a0 := a 0; have a1 := a 1; have a2 := a 2; have a3 := a 3; have a4 := a 4; have a5 := a 5; have a6 := a 6; have a7 := a 7; have a8 := a 8; have a9 := a 9; have a10 := a 10; have a11 := a 11
  omega
theorem rule_bits : ∀ i : Fin 729, nI (muN i.val 6) ||| nI (noN i.val 6) = nI (muN i.val 6 ||| noN i.val 6) ∧ muN i.val 6 ||| noN i.val 6 < 4096 ∧ pc (muN i.val 6 ||| noN i.val 6) = pc (ruleOf i.val) := by decide +kernel
/-- fold over the pairs that fit -/
def FR {α : Type} (T : Nat → Int32) (L : Nat) (g : Nat → α → α) (a : α) : α := fo (fun c a => if f_rule T L c = true then g c a else a) 4096 0 a
theorem perm_fold {α : Type} {f : Nat → Nat} {p q : Nat → Bool} {n k : Nat} (h : (((List.range n).map f).isPerm ((List.range k).filter p)) = true) {g : Nat → α → α} (comm : ∀ c d a, g c (g d a) = g d (g c a)) (a : α) : fo (fun i a => if q (f i) = true then g (f i) a else a) n 0 a = fo (fun c a => if (p c && q c) = true then g c a else a) k 0 a := by
  rw [fo_list, fo_list, ← List.range_eq_range', ← List.range_eq_range']
  have h1 := List.foldl_map (f := f) (g := fun a c => if q c = true then g c a else a) (l := List.range n) (init := a)
  have h2 := List.foldl_filter (p := p) (f := fun a c => if q c = true then g c a else a) (l := List.range k) (init := a)
  have h3 : (fun (a : α) c => if (p c && q c) = true then g c a else a) = fun a c => if p c = true then (if q c = true then g c a else a) else a := by
    funext a c
    cases p c <;> cases q c <;> rfl
  rw [h3, ← h2]
  have h4 := (List.isPerm_iff.mp h).foldl_eq' (f := fun a c => if q c = true then g c a else a) (fun x _ y _ z => by
    try simp only
    cases q x <;> cases q y
    · rfl
    · rfl
    · rfl
    · exact comm y x z) a
  rw [← h4]
  exact h1.symm
theorem comp_FR {α : Type} {T : Nat → Int32} {L : Nat} {g : Nat → α → α} (comm : ∀ c d a, g c (g d a) = g d (g c a)) (a : α) : fo (fun i a => if f_fit T L (ruleOf i) = true then g (ruleOf i) a else a) 729 0 a = FR T L g a := perm_fold (p := okCode) (q := f_fit T L) rules_perm comm a
theorem fo_map {α β : Type} {f : α → β} {s1 : Nat → α → α} {s2 : Nat → β → β} (h : ∀ i a, f (s1 i a) = s2 i (f a)) : ∀ (k i : Nat) (a : α), f (fo s1 k i a) = fo s2 k i (f a) := by
  intro k
  induction k with
  | zero => intro i a; rfl
  | succ k ih =>
    intro i a
    show f (fo s1 k (i + 1) (s1 i a)) = fo s2 k (i + 1) (s2 i (f a))
    rw [ih, h]
theorem FR_map {α β : Type} {T : Nat → Int32} {L : Nat} {f : α → β} {g : Nat → α → α} {g2 : Nat → β → β} (h : ∀ c a, f (g c a) = g2 c (f a)) (a : α) : f (FR T L g a) = FR T L g2 (f a) := by
  refine fo_map (fun c a => ?_) 4096 0 a
  split
  · exact h c a
  · rfl
theorem FR_inv {α : Type} {T : Nat → Int32} {L : Nat} {g : Nat → α → α} (I : α → Prop) {a : α} (h0 : I a) (h : ∀ c a, I a → I (g c a)) : I (FR T L g a) := by
  refine fo_inv (fun _ => I) 4096 0 a h0 (fun c a _ _ ha => ?_)
  try simp only
  split
  · exact h c a ha
  · exact ha
theorem total_le {T : Nat → Int32} {L : Nat} : f_total T L ≤ 4096 := by
  have := fo_inv (f := fun c a => if f_rule T L c = true then a + 1 else a) (fun i (a : Nat) => a ≤ i) 4096 0 0 (Nat.le_refl _) (fun j b _ _ hb => by
    try simp only
    split <;> omega)
  rw [Nat.zero_add] at this
  exact this
def gMin (c : Nat) (z : Nat × Nat) : Nat × Nat := (z.1 + 1, if pc c < z.2 then pc c else z.2)
theorem gMin_comm (c d : Nat) (z : Nat × Nat) : gMin c (gMin d z) = gMin d (gMin c z) := by
  unfold gMin
  simp only [Prod.mk.injEq, true_and]
  repeat' split
  all_goals omega
def f_minz (T : Nat → Int32) (L : Nat) : Nat × Nat := FR T L gMin (0, 1000000)
theorem minz_1 {T : Nat → Int32} {L : Nat} : (f_minz T L).1 = f_total T L := FR_map (f := fun z : Nat × Nat => z.1) (g := gMin) (g2 := fun _ a => a + 1) (fun _ _ => rfl) (0, 1000000)
theorem minz_2 {T : Nat → Int32} {L : Nat} : (f_minz T L).2 = FR T L (fun c b => if pc c < b then pc c else b) 1000000 := FR_map (f := fun z : Nat × Nat => z.2) (g := gMin) (g2 := fun c b => if pc c < b then pc c else b) (fun _ _ => rfl) (0, 1000000)
theorem minz_0 {T : Nat → Int32} {L : Nat} : (f_minz T L).1 = 0 ↔ (f_minz T L).2 = 1000000 := by
  refine FR_inv (g := gMin) (fun z : Nat × Nat => z.1 = 0 ↔ z.2 = 1000000) (by simp) (fun c z _ => ?_)
  have := pc_12 c
  unfold gMin
  try simp only
  constructor
  · intro h; omega
  · intro h
    split at h <;> omega
def o_rules (T : Nat → Int32) (L : Nat) (a : Int32) : Ot := if f_told T L = true then .inl (if a = 0 then nI (f_minz T L).1 else if (f_minz T L).1 = 0 then -1 else nI (f_minz T L).2) else .inr (xIa, 1)
section P9
variable {x t : Nat} {V : Nat → Nat → Int32} {m T : Nat → Int32} {L : Nat} {Q : Int32 → Prop} {Q0 : (Nat → Nat → Int32) → Prop} {Q2 : Int32 → (Nat → Nat → Int32) → Prop} {P : Prop} {X : String → (Nat → Nat → Int32) → Prop}
theorem told_40 (h : f_told T L = true) : L % 2 = 0 ∧ L ≤ 40 := by
  unfold f_told at h
  simp only [Bool.and_eq_true, decide_eq_true_eq] at h
  exact h.1
/-- the two of them that tell and lay the rules -/
theorem s1_lays (hT : L ≤ 400) (hC : TapeC V (x + 109) L T) (hq : if f_told T L = true then ∀ V', (∀ a, a ≠ x + 157 → a ≠ x + 158 → V' a = begun V (x + 109) a) → RulesAt V' x → V' (x + 109) 2 = nI L → (∀ i, i < L → V' (x + 109 + 1) i = T i) → Q0 V' else X xIa (begun V (x + 109))) : wX1_gateTold x V (fun V1 => wX1_laysRules x V1 Q0) (fun _ _ => False) ∨ wX1_gateTold x V (fun _ => False) X := by
  by_cases c : f_told T L = true
  · rw [if_pos c] at hq
    refine Or.inl (s1_gateTold hT hC ?_)
    rw [if_pos c]
    refine s1_laysRules (fun V' f r => hq V' f r ?_ (fun i hi => ?_))
    · rw [f (x + 109) (by omega) (by omega), begun_2]; exact hC.1
    · rw [f (x + 109 + 1) (by omega) (by omega), begun_n (by omega)]; exact hC.2 i hi
  · rw [if_neg c] at hq
    refine Or.inr (s1_gateTold hT hC ?_)
    rw [if_neg c]
    exact hq
theorem s1_rules {a : Int32} (hT : L ≤ 400) (hC : TapeC V (x + 109) L T) (hq : ∀ V', (∀ a, a ≠ x + 157 → a ≠ x + 158 → V' a = begun V (x + 109) a) → oC (o_rules T L a) (fun r => Q2 r V') (fun e => X e V')) : wX1_rules x V a Q2 X := by
  refine s1_lays hT hC ?_
  split
  · next c =>
    intro V' f hV hr ht
    have hq := hq V' f
    unfold o_rules at hq
    rw [if_pos c] at hq
    obtain ⟨c2, c40⟩ := told_40 c
    have ez : fo (fun i z => if f_fit T L (ruleOf i) = true then gMin (ruleOf i) z else z) 729 0 (0, 1000000) = f_minz T L := comp_FR gMin_comm _
    have hz := minz_0 (T := T) (L := L)
    generalize f_minz T L = z at *
    refine fo_loopI (fun n (z : Nat × Nat) i => wX1_rules_17 x a Q2 X n V' (nI z.1) (nI z.2) (nI i)) (fun i z => if f_fit T L (ruleOf i) = true then gMin (ruleOf i) z else z) (fun z' => z' = z ∧ z.1 ≤ 729) (fun i z => z.1 ≤ i ∧ z.2 ≤ 1000000) 729 ?_ ?_ ?_ 729 0 (0, 1000000) rfl ⟨Nat.le_refl _, Nat.le_refl _⟩ ⟨ez, ?_⟩
    · rintro n z' ⟨rfl, hz7⟩
      rw [wX1_rules_17]
      refine br_t (Int32.le_refl _) ⟨fun z1 => ⟨fun z2 => ?_, fun z2 => ?_⟩, fun z1 => ?_⟩
      · rw [if_neg z1, if_neg (fun q => z2 (by rw [q]; rfl))] at hq; exact hq
      · rw [if_neg z1, if_pos ((nI_eq (b := 0) (by omega) (by decide)).mp z2)] at hq; exact hq
      · rw [if_pos z1] at hq; exact hq
    · rintro i z' hi ⟨h1, h2⟩
      try simp only
      split
      · unfold gMin
        try simp only
        refine ⟨by omega, ?_⟩
        split <;> omega
      · exact ⟨by omega, h2⟩
    · rintro n z' i hi ⟨h1, h2⟩ hk
      obtain ⟨b1, b2, b3⟩ := rule_bits ⟨i, hi⟩
      have p12 := pc_12 (ruleOf i)
      have vi : vp_in (nI i) 729 := vp_in_nI hi (by decide)
      rw [wX1_rules_17]
      refine br_f (nI_ge hi (by decide)) (s1_fits hV hi c40 c2 hr ht ⟨fun z1 => ?_, fun z1 => ?_⟩)
      · have z1 := Classical.byContradiction (fun q => z1 (b2i_f q))
        rw [if_pos z1] at hk
        refine nm_r (nI_1 _) ⟨vi, vi, ?_⟩
        rw [nI_clamp (by omega), (hV i hi).1, (hV i hi).2, b1]
        refine s_bitCount b2 ?_
        rw [b3]
        refine nm_r ?_ (nm_r (nI_1 i) hk)
        show _ = nI (if pc (ruleOf i) < z'.2 then pc (ruleOf i) else z'.2)
        by_cases q : pc (ruleOf i) < z'.2
        · rw [if_pos q, if_pos (nI_lt q (by omega))]
        · rw [if_neg q, if_neg (fun q2 => q ((nI_ltI (by omega) (by omega)).mp q2))]
      · have z1 := b2i_0.mp z1
        rw [if_neg z1] at hk
        exact nm_r (nI_1 i) hk
    · have := fo_inv (f := fun i z => if f_fit T L (ruleOf i) = true then gMin (ruleOf i) z else z) (fun i (z : Nat × Nat) => z.1 ≤ i) 729 0 (0, 1000000) (Nat.le_refl _) (fun j b _ _ hb => by
        try simp only
        split
        · show b.1 + 1 ≤ j + 1; omega
        · omega)
      rw [ez] at this
      exact this
  · next c =>
    have hq := hq _ (fun _ _ _ => rfl)
    unfold o_rules at hq
    rw [if_neg c] at hq
    exact hq
theorem s6_rules {a : Int32} (hT : TapeOk T L) (hC : TapeT V t L T) (hq : ∀ V', (∀ a, a ≠ t + 12 → V' a = vset V t 8 0 a) → oT (o_rules T L a) t V' Q2) : wX6_rules t V a Q2 := by
  refine s6_heard hT hC ?_
  split
  · next c =>
    intro V' f hV
    have hq := hq V' f
    unfold o_rules at hq
    rw [if_pos c] at hq
    have tl := total_le (T := T) (L := L)
    refine br_f (nI_nm1 (by omega)) ?_ |> fun h => ⟨h.2, h.1⟩
    have hz := minz_0 (T := T) (L := L)
    have h2 := minz_2 (T := T) (L := L)
    rw [← minz_1] at tl ⊢
    generalize f_minz T L = z at *
    change Q2 _ _ at hq
    have e12 : vset V' t 0 0 (t + 12) = V' (t + 12) := vset_n _ _ _ (by omega)
    rw [← e12] at hV
    have et : vset V' t 0 0 t 0 = 0 := vt0
    unfold wX6_rules_16 wX6_rules_30
    generalize vset V' t 0 0 = V1 at *
    rw [et]
    refine br_f (by decide) ⟨fun z1 => ?_, fun z1 => br_t (by decide) (by rw [if_pos z1] at hq; exact hq)⟩
    rw [if_neg z1] at hq
    have hq2 : Q2 (if z.2 = 1000000 then -1 else nI z.2) V1 := by
      by_cases q : z.1 = 0
      · rw [if_pos q] at hq; rw [if_pos (hz.mp q)]; exact hq
      · rw [if_neg q] at hq; rw [if_neg (fun q2 => q (hz.mpr q2))]; exact hq
    refine fo_loopI (fun n (v : Nat) c => wX6_rules_48 t a Q2 n V1 (if v = 1000000 then -1 else nI v) (nI c)) (fun c b => if f_rule T L c = true then (if pc c < b then pc c else b) else b) (fun v => v = z.2) (fun _ v => v ≤ 1000000) 4096 ?_ ?_ ?_ 4096 0 1000000 rfl (Nat.le_refl _) h2.symm
    · rintro n v rfl
      rw [wX6_rules_48]
      exact br_t (Int32.le_refl _) hq2
    · intro c v hc hv
      try simp only
      have := pc_12 c
      split
      · split <;> omega
      · exact hv
    · intro n v c hc hv hk
      have p12 := pc_12 c
      have vc : vp_in (nI c) 4096 := vp_in_nI hc (by decide)
      rw [wX6_rules_48, nI_clamp (by omega), hV c hc]
      refine br_f (nI_ge hc (by decide)) ⟨vc, p_bz ?_⟩
      split
      · next z2 =>
        rw [if_pos z2] at hk
        have h80 : (if pc c < v then pc c else v) = pc c → wX6_rules_80 t a Q2 (fun V x3 x4 => wX6_rules_48 t a Q2 n V x3 x4) V1 (nI c) := by
          intro e
          rw [e, if_neg (by omega)] at hk
          exact s6_bits hc (nm_r (nI_1 c) hk)
        by_cases q : v = 1000000
        · rw [if_pos q]
          exact br_t rfl (h80 (if_pos (by omega)))
        · rw [if_neg q]
          refine br_f (nI_nm1 (by omega)) (s6_bits hc (br_c (fun z3 => ?_) (fun z3 => ?_)))
          · have z4 := (nI_leI (by omega) (by omega)).mp z3
            rw [if_neg (show ¬ pc c < v by omega), if_neg q] at hk
            exact nm_r (nI_1 c) hk
          · exact h80 (if_pos (Nat.not_le.mp fun q2 => z3 (nI_le q2 (by omega))))
      · next z2 =>
        rw [if_neg z2] at hk
        exact nm_r (nI_1 c) hk
  · next c =>
    have hq := hq _ (fun _ _ => rfl)
    unfold o_rules at hq
    rw [if_neg c] at hq
    refine ⟨fun z => absurd rfl z, fun _ => ?_⟩
    unfold wX6_rules_16 wX6_rules_30
    rw [vt0]
    exact br_t (by decide) (br_f (by decide) (hq _))
end P9
