/-! ===== PURE: rules and send ===== -/
def f_let (c : Nat) (a : Int32) : Bool := decide ((a &&& nI (c / 64)) = nI (c / 64) ∧ (a &&& nI (c % 64)) = 0)
def f_told (T : Nat → Int32) (L : Nat) : Bool := decide (L % 2 = 0) && decide (L ≤ 40) && allB (fun k => decide (inI (T (2 * k)) 0 63) && decide (inI (T (2 * k + 1)) 0 1)) (L / 2) 0
def f_fit (T : Nat → Int32) (L c : Nat) : Bool := allB (fun k => f_let c (T (2 * k)) == decide (T (2 * k + 1) = 1)) (L / 2) 0
/-- the component's tables of rules -/
def RulesAt (V : Nat → Nat → Int32) (x : Nat) : Prop := ∀ i, i < 729 → V (x + 157) i = nI (muN i 6) ∧ V (x + 158) i = nI (noN i 6)
def oneOf (d : Nat) (c : Prop) [Decidable c] : Int32 := if c then (1 : Int32) <<< (nI d &&& 31) else 0
theorem rule_one {M d : Nat} {c : Prop} [Decidable c] (hd : d < 6) (hM : M < 2 ^ d) : nI M ||| oneOf d c = nI (M + (if c then 2 ^ d else 0)) := by
  unfold oneOf
  split
  · exact rule_or ⟨d, hd⟩ ⟨M, Nat.lt_of_lt_of_le hM (show 2 ^ d ≤ 2 ^ 5 from Nat.pow_le_pow_right (by decide) (by omega))⟩ hM
  · exact or_0 _
section P8
variable {x t : Nat} {V : Nat → Nat → Int32} {m T : Nat → Int32} {L : Nat} {Q : Int32 → Prop} {Q0 : (Nat → Nat → Int32) → Prop} {Q2 : Int32 → (Nat → Nat → Int32) → Prop} {P : Prop} {X : String → (Nat → Nat → Int32) → Prop}
theorem s1_laysRules (hq : ∀ V', (∀ a, a ≠ x + 157 → a ≠ x + 158 → V' a = V a) → RulesAt V' x → Q0 V') : wX1_laysRules x V Q0 := by
  refine ⟨729 + 1, vloop (fun n V' i => wX1_laysRules_2 x Q0 n V' (nI i)) (fun i V' => (∀ a, a ≠ x + 157 → a ≠ x + 158 → V' a = V a) ∧ ∀ j, j < i → V' (x + 157) j = nI (muN j 6) ∧ V' (x + 158) j = nI (noN j 6)) 729 ?_ ?_ 729 0 V rfl ⟨fun _ _ _ => rfl, fun j hj => absurd hj (Nat.not_lt_zero _)⟩⟩
  · intro n V1 hI
    rw [wX1_laysRules_2]
    exact br_t (Int32.le_refl _) (hq V1 hI.1 hI.2)
  · intro n V1 i hi hI hk
    have vi : vp_in (nI i) 729 := vp_in_nI hi (by decide)
    rw [wX1_laysRules_2, nI_clamp (by omega)]
    refine br_f (nI_ge hi (by decide)) ⟨vi, vi, 6 + 1, ?_⟩
    refine vloop (fun n2 V' d => wX1_laysRules_27 x Q0 (fun V x1 => wX1_laysRules_2 x Q0 n V x1) n2 V' (nI i) (nI (i / 3 ^ d)) (nI d)) (fun d V' => (∀ a, a ≠ x + 157 → a ≠ x + 158 → V' a = V a) ∧ (∀ j, j < i → V' (x + 157) j = nI (muN j 6) ∧ V' (x + 158) j = nI (noN j 6)) ∧ V' (x + 157) i = nI (muN i d) ∧ V' (x + 158) i = nI (noN i d)) 6 ?_ ?_ 6 0 _ rfl ?_ |> fun h => by rw [Nat.pow_zero, Nat.div_one] at h; exact h
    · intro n2 V2 hJ
      obtain ⟨j1, j2, j3, j4⟩ := hJ
      rw [wX1_laysRules_27]
      refine br_t (by decide) (nm_r (nI_1 i) (hk V2 ⟨j1, fun j hj => ?_⟩))
      by_cases c : j = i
      · rw [c]; exact ⟨j3, j4⟩
      · exact j2 j (by omega)
    · intro n2 V2 d hd hJ hk2
      obtain ⟨j1, j2, j3, j4⟩ := hJ
      have er : nI (i / 3 ^ d) - nI (i / 3 ^ d) / (3 : Int32) * (3 : Int32) = nI (i / 3 ^ d % 3) := pk_rem (d := 3) (by have := Nat.div_le_self i (3 ^ d); omega) (by decide) (by decide)
      have ed : nI (i / 3 ^ d) / (3 : Int32) = nI (i / 3 ^ (d + 1)) := by
        rw [show (3 : Int32) = nI 3 from rfl, pk_div (by have := Nat.div_le_self i (3 ^ d); omega) (by decide) (by decide), Nat.div_div_eq_div_mul, Nat.pow_succ]
      have m3 := Nat.mod_lt (i / 3 ^ d) (show 0 < 3 by decide)
      have fin : ∀ u v, u = nI (muN i (d + 1)) → v = nI (noN i (d + 1)) → wX1_laysRules_27 x Q0 (fun V x1 => wX1_laysRules_2 x Q0 n V x1) n2 (vset (vset V2 (x + 157) i u) (x + 158) i v) (nI i) (nI (i / 3 ^ (d + 1))) (nI (d + 1)) := by
        intro u v eu ev
        refine hk2 _ ⟨fun a h1 h2 => ?_, fun j hj => ?_, ?_, ?_⟩
        · rw [vset_n _ _ _ h2, vset_n _ _ _ h1]; exact j1 a h1 h2
        · rw [vset_n _ _ _ (show x + 157 ≠ x + 158 by omega), vset_s, vset_s, pk_un (by omega), pk_un (by omega), vset_n _ _ _ (show x + 158 ≠ x + 157 by omega)]
          exact j2 j hj
        · rw [vset_n _ _ _ (show x + 157 ≠ x + 158 by omega), vset_s, pk_us]; exact eu
        · rw [vset_s, pk_us]; exact ev
      have f77 : ∀ u, u = nI (muN i (d + 1)) → wX1_laysRules_77 x Q0 (fun V x1 => wX1_laysRules_2 x Q0 n V x1) (fun V x1 x2 x3 => wX1_laysRules_27 x Q0 (fun V x1 => wX1_laysRules_2 x Q0 n V x1) n2 V x1 x2 x3) (vset V2 (x + 157) i u) (nI i) (nI (i / 3 ^ d)) (nI d) (nI i) (vset V2 (x + 157) i u (x + 158) i) (oneOf d (i / 3 ^ d % 3 = 2)) := by
        intro u eu
        refine nm_e ⟨vi, nm_r ed (nm_r (nI_1 d) ?_)⟩
        rw [nI_clamp (by omega)]
        refine fin _ _ eu ?_
        rw [vset_n _ _ _ (show x + 158 ≠ x + 157 by omega), j4, rule_one hd (noN_lt i d)]
        rfl
      have f54 : wX1_laysRules_54 x Q0 (fun V x1 => wX1_laysRules_2 x Q0 n V x1) (fun V x1 x2 x3 => wX1_laysRules_27 x Q0 (fun V x1 => wX1_laysRules_2 x Q0 n V x1) n2 V x1 x2 x3) V2 (nI i) (nI (i / 3 ^ d)) (nI d) (nI i) (V2 (x + 157) i) (oneOf d (i / 3 ^ d % 3 = 1)) := by
        refine nm_e ⟨vi, vi, ?_⟩
        rw [nI_clamp (by omega), er]
        have eu : V2 (x + 157) i ||| oneOf d (i / 3 ^ d % 3 = 1) = nI (muN i (d + 1)) := by
          rw [j3, rule_one hd (muN_lt i d)]; rfl
        have f := f77 _ eu
        refine ⟨fun z => ?_, fun z => ?_⟩
        · rw [show oneOf d (i / 3 ^ d % 3 = 2) = 0 from if_neg (fun q => z (by rw [q]; rfl))] at f; exact f
        · rw [show oneOf d (i / 3 ^ d % 3 = 2) = (1 : Int32) <<< (nI d &&& 31) from if_pos ((nI_eq (b := 2) (by omega) (by decide)).mp z)] at f; exact f
      rw [wX1_laysRules_27, nI_clamp (show i < 2 ^ 31 by omega), er]
      refine br_f (nI_ge hd (by decide)) ⟨vi, fun z => ?_, fun z => ?_⟩
      · rw [show oneOf d (i / 3 ^ d % 3 = 1) = 0 from if_neg (fun q => z (by rw [q]; rfl))] at f54; exact f54
      · rw [show oneOf d (i / 3 ^ d % 3 = 1) = (1 : Int32) <<< (nI d &&& 31) from if_pos ((nI_eq (b := 1) (by omega) (by decide)).mp z)] at f54; exact f54
    · refine ⟨fun a h1 h2 => ?_, fun j hj => ?_, ?_, ?_⟩
      · rw [vset_n _ _ _ h2, vset_n _ _ _ h1]; exact hI.1 a h1 h2
      · rw [vset_n _ _ _ (show x + 157 ≠ x + 158 by omega), vset_s, vset_s, pk_un (by omega), pk_un (by omega), vset_n _ _ _ (show x + 158 ≠ x + 157 by omega)]
        exact hI.2 j hj
      · rw [vset_n _ _ _ (show x + 157 ≠ x + 158 by omega), vset_s, pk_us]; rfl
      · rw [vset_s, pk_us]; rfl
theorem rule_div (i : Nat) : ruleOf i / 64 = muN i 6 ∧ ruleOf i % 64 = noN i 6 := by
  have a := muN_lt i 6
  have b := noN_lt i 6
  unfold ruleOf
  omega
theorem s1_passes {i : Nat} {a : Int32} (hV : RulesAt V x) (hi : i < 729) (hq : Q (b2i (f_let (ruleOf i) a = true))) : wX1_passes x V (nI i) a Q := by
  have vi : vp_in (nI i) 729 := vp_in_nI hi (by decide)
  obtain ⟨h1, h2⟩ := hV i hi
  unfold wX1_passes
  rw [nI_clamp (by omega), h1, h2]
  unfold f_let at hq
  rw [(rule_div i).1, (rule_div i).2] at hq
  refine ⟨vi, vi, fun z => ?_, fun z => ⟨vi, fun z2 => ?_, fun z2 => ?_⟩⟩
  · rw [decide_eq_false (fun q => z q.1), b2i_f (by decide)] at hq; exact hq
  · rw [decide_eq_false (fun q => z2 q.2), b2i_f (by decide)] at hq; exact hq
  · rw [decide_eq_true ⟨z, z2⟩, b2i_t rfl] at hq; exact hq
theorem s1_fits {i : Nat} (hV : RulesAt V x) (hi : i < 729) (hL : L ≤ 40) (h2 : L % 2 = 0) (hr : V (x + 109) 2 = nI L) (ht : ∀ i, i < L → V (x + 109 + 1) i = T i) (hq : Q (b2i (f_fit T L (ruleOf i) = true))) : wX1_fits x V (nI i) Q := by
  unfold f_fit at hq
  refine all_loop (fun n k => wX1_fits_7 x V (nI i) Q n (nI (2 * k))) (fun k => f_let (ruleOf i) (T (2 * k)) == decide (T (2 * k + 1) = 1)) (Q 1) (Q 0) (L / 2) ?_ ?_ (L / 2) 0 (Nat.zero_add _) (b2i_if hq)
  · intro n hP
    rw [wX1_fits_7, hr]
    exact br_t (by rw [show 2 * (L / 2) = L by omega]; exact Int32.le_refl _) hP
  · intro n k hk0 hk
    rw [wX1_fits_7, hr, nI_1, nI_clamp (show 2 * k < 2 ^ 31 by omega), nI_clamp (show 2 * k + 1 < 2 ^ 31 by omega), ht _ (show 2 * k < L by omega), ht _ (show 2 * k + 1 < L by omega)]
    have k43 : ∀ s1 : Int32, s1 = b2i (T (2 * k + 1) = 1) → wX1_fits_43 x V (nI i) Q (fun x3 => wX1_fits_7 x V (nI i) Q n x3) (nI (2 * k)) (b2i (f_let (ruleOf i) (T (2 * k)) = true)) s1 := by
      rintro s1 rfl
      have e2 : nI (2 * k) + (2 : Int32) = nI (2 * (k + 1)) := by rw [show (2 : Int32) = nI 2 from rfl, nI_add]; rfl
      cases z : f_let (ruleOf i) (T (2 * k)) <;> by_cases c : T (2 * k + 1) = 1
      · rw [z, decide_eq_true c, if_neg (by decide)] at hk
        exact ⟨fun q => absurd q (by rw [b2i_t c]; decide), fun _ => hk⟩
      · rw [z, decide_eq_false c, if_pos (by decide)] at hk
        exact ⟨fun q => nm_r e2 hk, fun q => absurd (by rw [b2i_f c]; rfl) q⟩
      · rw [z, decide_eq_true c, if_pos (by decide)] at hk
        exact ⟨fun q => nm_r e2 hk, fun q => absurd (by rw [b2i_t c]; rfl) q⟩
      · rw [z, decide_eq_false c, if_neg (by decide)] at hk
        exact ⟨fun q => absurd q (by rw [b2i_f c]; decide), fun _ => hk⟩
    refine br_f (nI_ge (by omega) (by omega)) ⟨vp_in_nI (by omega) (by decide), s1_passes hV hi ⟨vp_in_nI (by omega) (by decide), fun z => k43 _ (b2i_f z).symm, fun z => k43 _ (b2i_t z).symm⟩⟩
theorem s1_gateTold (hT : L ≤ 400) (hC : TapeC V (x + 109) L T) (hq : if f_told T L = true then Q0 (begun V (x + 109)) else X xIa (begun V (x + 109))) : wX1_gateTold x V Q0 X := by
  have hL := hT
  obtain ⟨c1, c2⟩ := hC
  unfold wX1_gateTold wX3_begins
  refine nm_e ?_
  have e2 := begun_2 (V := V) (r := x + 109)
  have et : ∀ i, i < L → begun V (x + 109) (x + 109 + 1) i = T i := fun i hi => by rw [begun_n (by omega)]; exact c2 i hi
  rw [c1] at e2
  change (¬ begun V (x + 109) (x + 109) 2 - begun V (x + 109) (x + 109) 2 / 2 * 2 = 0 → wX1_gateTold_31 x Q0 X (begun V (x + 109))) ∧ (begun V (x + 109) (x + 109) 2 - begun V (x + 109) (x + 109) 2 / 2 * 2 = 0 → ((40 : Int32) < begun V (x + 109) (x + 109) 2 → wX1_gateTold_31 x Q0 X (begun V (x + 109))) ∧ (¬ (40 : Int32) < begun V (x + 109) (x + 109) 2 → wX1_gateTold_32 x Q0 X (begun V (x + 109)) 1))
  generalize begun V (x + 109) = V1 at *
  rw [e2, show nI L - nI L / (2 : Int32) * (2 : Int32) = nI (L % 2) from pk_rem (d := 2) (by omega) (by decide) (by decide)]
  unfold f_told at hq
  have bad : ¬ (L % 2 = 0 ∧ L ≤ 40) → wX1_gateTold_31 x Q0 X V1 := by
    intro c
    rw [if_neg (fun q => c (by simp only [Bool.and_eq_true, decide_eq_true_eq] at q; exact q.1))] at hq
    exact e1_demand (X := fun E => X E V1) (by rw [if_pos rfl]; exact hq)
  have e2' : ∀ k, nI (2 * k) + (2 : Int32) = nI (2 * (k + 1)) := fun k => by rw [show (2 : Int32) = nI 2 from rfl, nI_add]; rfl
  refine ⟨fun z => bad (fun q => z (by rw [q.1]; rfl)), fun z => ?_⟩
  have z1 : L % 2 = 0 := (nI_eq (b := 0) (by omega) (by decide)).mp z
  refine br_c (fun z => bad (fun q => nI_nlt (b := L) (a := 40) q.2 (by decide) z)) (fun z => ?_)
  have z2 : L ≤ 40 := Nat.not_lt.mp fun q => z (nI_lt (a := 40) q (by omega))
  rw [decide_eq_true z1, decide_eq_true z2, Bool.true_and, Bool.true_and] at hq
  refine e1_demand (X := fun E => X E V1) ?_
  rw [if_neg (by decide)]
  refine all_loop (fun n k => wX1_gateTold_37 x Q0 X n V1 (nI (2 * k))) (fun k => decide (inI (T (2 * k)) 0 63) && decide (inI (T (2 * k + 1)) 0 1)) (Q0 V1) (X xIa V1) (L / 2) ?_ ?_ (L / 2) 0 (Nat.zero_add _) hq
  · intro n hP
    rw [wX1_gateTold_37, e2]
    exact br_t (by rw [show 2 * (L / 2) = L by omega]; exact Int32.le_refl _) hP
  · intro n k hk0 hk
    rw [wX1_gateTold_37, e2, nI_1, nI_clamp (show 2 * k < 2 ^ 31 by omega), nI_clamp (show 2 * k + 1 < 2 ^ 31 by omega), et _ (show 2 * k < L by omega), et _ (show 2 * k + 1 < L by omega)]
    refine br_f (nI_ge (by omega) (by omega)) ⟨vp_in_nI (by omega) (by decide), s1_in (p_bz ?_)⟩
    split
    · next c =>
      refine ⟨vp_in_nI (by omega) (by decide), s1_in (p_bz ?_)⟩
      split
      · next d =>
        rw [decide_eq_true c, decide_eq_true d, if_pos (by decide)] at hk
        refine e1_demand (X := fun E => X E V1) ?_
        rw [if_neg (by decide)]
        exact nm_r (e2' k) hk
      · next d =>
        rw [decide_eq_true c, decide_eq_false d, if_neg (by decide)] at hk
        exact e1_demand (X := fun E => X E V1) (by rw [if_pos rfl]; exact hk)
    · next c =>
      rw [decide_eq_false c, if_neg (by simp)] at hk
      exact e1_demand (X := fun E => X E V1) (by rw [if_pos rfl]; exact hk)
/-! ===== the twin's ear ===== -/
theorem s6_isLetBy {c : Nat} {a : Int32} (hc : c < 4096) (hq : Q (b2i (f_let c a = true))) : wX6_isLetBy (nI c) a Q := by
  have e1 : nI c >>> ((6 : Int32) &&& 31) = nI (c / 64) := pk_shrN (by omega) _ 6 (by decide)
  have e2 : nI c &&& (63 : Int32) = nI (c % 64) := pk_andN (by omega) 6 (by decide)
  unfold f_let at hq
  refine nm_r e1 (nm_r e2 ⟨fun z => ?_, fun z => ⟨fun z2 => ?_, fun z2 => ?_⟩⟩)
  · rw [decide_eq_false (fun q => z q.1), b2i_f (by decide)] at hq; exact hq
  · rw [decide_eq_false (fun q => z2 q.2), b2i_f (by decide)] at hq; exact hq
  · rw [decide_eq_true ⟨z, z2⟩, b2i_t rfl] at hq; exact hq
def f_rule (T : Nat → Int32) (L c : Nat) : Bool := okCode c && f_fit T L c
def f_total (T : Nat → Int32) (L : Nat) : Nat := fo (fun c a => if f_rule T L c = true then a + 1 else a) 4096 0 0
theorem in_le {b n : Nat} (hb : b < 2 ^ 31) (hn : n < 2 ^ 31) : inI (nI b) 0 (nI n) ↔ b ≤ n := by
  rw [inI_lit hn]
  constructor
  · rintro ⟨k, hk, e⟩
    have := (nI_eq hb (by omega)).mp e
    omega
  · intro h
    exact ⟨b, h, rfl⟩
theorem told_iff (hT : TapeOk T L) : f_told T L = (decide (L % 2 = 0 ∧ L ≤ 40) && allB (fun i => !decide ((if i % 2 = 0 then (64 : Int32) else 2) ≤ T i)) L 0) := by
  unfold f_told
  by_cases c : L % 2 = 0 ∧ L ≤ 40
  · rw [decide_eq_true c, decide_eq_true c.1, decide_eq_true c.2, Bool.true_and, Bool.true_and, Bool.true_and, Bool.eq_iff_iff, allB_iff, allB_iff]
    constructor
    · intro h i _ hi
      obtain ⟨b, hb, eb⟩ := hT.2 i (by omega)
      have h2 := h (i / 2) (Nat.zero_le _) (by omega)
      simp only [Bool.and_eq_true, decide_eq_true_eq] at h2
      simp only [Bool.not_eq_true', decide_eq_false_iff_not]
      rw [eb]
      split
      · next z =>
        rw [show 2 * (i / 2) = i by omega, eb, show (63 : Int32) = nI 63 from rfl, in_le (by omega) (by decide)] at h2
        intro q
        have := (nI_leI (a := 64) (by decide) (by omega)).mp q
        omega
      · next z =>
        rw [show 2 * (i / 2) + 1 = i by omega, eb, show (1 : Int32) = nI 1 from rfl, in_le (by omega) (by decide)] at h2
        intro q
        have := (nI_leI (a := 2) (by decide) (by omega)).mp q
        omega
    · intro h k _ hk
      obtain ⟨b, hb, eb⟩ := hT.2 (2 * k) (by omega)
      obtain ⟨b', hb', eb'⟩ := hT.2 (2 * k + 1) (by omega)
      have h1 := h (2 * k) (Nat.zero_le _) (by omega)
      have h2 := h (2 * k + 1) (Nat.zero_le _) (by omega)
      simp only [Bool.not_eq_true', decide_eq_false_iff_not] at h1 h2
      rw [if_pos (by omega), eb] at h1
      rw [if_neg (by omega), eb'] at h2
      simp only [Bool.and_eq_true, decide_eq_true_eq]
      rw [eb, eb', show (63 : Int32) = nI 63 from rfl, show (1 : Int32) = nI 1 from rfl, in_le (by omega) (by decide), in_le (by omega) (by decide)]
      constructor
      · exact Nat.not_lt.mp fun q => h1 (nI_le (a := 64) q (by omega))
      · exact Nat.not_lt.mp fun q => h2 (nI_le (a := 2) q (by omega))
  · rw [decide_eq_false c, Bool.false_and]
    by_cases d : L % 2 = 0
    · rw [decide_eq_false (fun q => c ⟨d, q⟩), Bool.and_false, Bool.false_and]
    · rw [decide_eq_false d, Bool.false_and, Bool.false_and]
theorem s6_heard (hT : TapeOk T L) (hC : TapeT V t L T) (hq : if f_told T L = true then ∀ V', (∀ a, a ≠ t + 12 → V' a = vset V t 8 0 a) → (∀ c, c < 4096 → V' (t + 12) c = b2i (f_rule T L c = true)) → Q2 (nI (f_total T L)) V' else Q2 (-1) (vset V t 8 0)) : wX6_heard t V Q2 := by
  rw [told_iff hT] at hq
  obtain ⟨hL, hb⟩ := hT
  obtain ⟨c1, c2⟩ := hC
  unfold wX6_heard
  refine nm_r c1 ?_
  have e5 : vset V t 8 0 (t + 5) = V (t + 5) := vset_n _ _ _ (by omega)
  rw [← e5] at c2
  generalize vset V t 8 0 = V0 at *
  rw [show nI L - nI L / (2 : Int32) * (2 : Int32) = nI (L % 2) from pk_rem (d := 2) (by omega) (by decide) (by decide)]
  have go : (∃ f9, wX6_heard_30 t Q2 f9 V0 (nI L) (b2i (decide (L % 2 = 0 ∧ L ≤ 40) = true)) 0) := by
    refine flag_loop (fun n b i => wX6_heard_30 t Q2 n V0 (nI L) (b2i (b = true)) (nI i)) (fun i => !decide ((if i % 2 = 0 then (64 : Int32) else 2) ≤ T i)) (fun b => wX6_heard_72 t Q2 V0 (nI L) (b2i (b = true))) L ?_ ?_ ?_ L 0 _ (Nat.zero_add _) ?_
    · intro n b hP
      rw [wX6_heard_30]
      exact br_t (Int32.le_refl _) hP
    · intro n i hi hP
      rw [wX6_heard_30]
      exact br_f (nI_ge hi (by omega)) (br_t rfl hP)
    · intro n i hi hk
      rw [wX6_heard_30, nI_clamp (show i < 2 ^ 31 by omega), c2 i hi, show nI i - nI i / (2 : Int32) * (2 : Int32) = nI (i % 2) from pk_rem (d := 2) (by omega) (by decide) (by decide)]
      refine br_f (nI_ge hi (by omega)) (br_f (by decide) ⟨vp_in_nI (by omega) (by decide), fun z => ?_, fun z => ?_⟩)
      · rw [if_neg (fun q => z (by rw [q]; rfl))] at hk
        refine br_c (fun z2 => nm_r (nI_1 i) ?_) (fun z2 => nm_r (nI_1 i) ?_)
        · rw [decide_eq_true z2] at hk; exact hk
        · rw [decide_eq_false z2] at hk; exact hk
      · rw [if_pos ((nI_eq (b := 0) (by omega) (by decide)).mp z)] at hk
        refine br_c (fun z2 => nm_r (nI_1 i) ?_) (fun z2 => nm_r (nI_1 i) ?_)
        · rw [decide_eq_true z2] at hk; exact hk
        · rw [decide_eq_false z2] at hk; exact hk
    · cases hz : (decide (L % 2 = 0 ∧ L ≤ 40) && allB (fun i => !decide ((if i % 2 = 0 then (64 : Int32) else 2) ≤ T i)) L 0) with
      | false =>
        rw [hz, if_neg (by decide)] at hq
        exact ⟨fun z => absurd rfl z, fun _ => hq⟩
      | true =>
        rw [hz, if_pos rfl] at hq
        have hL2 := of_decide_eq_true ((Bool.and_eq_true _ _).mp hz).1
        refine ⟨fun _ => ⟨4096 + 1, ?_⟩, fun z => absurd z (by decide)⟩
        refine vloop (fun n (b : (Nat → Nat → Int32) × Nat) c => wX6_heard_83 t Q2 n b.1 (nI L) (nI b.2) (nI c)) (fun i b => (∀ a, a ≠ t + 12 → b.1 a = V0 a) ∧ (∀ c, c < i → b.1 (t + 12) c = b2i (f_rule T L c = true)) ∧ fo (fun c a => if f_rule T L c = true then a + 1 else a) (4096 - i) i b.2 = f_total T L) 4096 ?_ ?_ 4096 0 (V0, 0) rfl ⟨fun _ _ => rfl, fun c hc => absurd hc (Nat.not_lt_zero _), rfl⟩
        · rintro n ⟨V1, a⟩ ⟨i1, i2, i3⟩
          rw [wX6_heard_83]
          have h := hq V1 i1 i2
          generalize f_total T L = N at *
          rw [Nat.sub_self] at i3
          have i4 : a = N := i3
          rw [← i4] at h
          exact br_t (Int32.le_refl _) h
        · rintro n ⟨V1, a⟩ c hc ⟨i1, i2, i3⟩ hk
          simp only at i1 i2 i3
          have vc : vp_in (nI c) 4096 := vp_in_nI hc (by decide)
          have h187 : ∀ V2 : Nat → Nat → Int32, (∀ a, a ≠ t + 12 → V2 a = V0 a) → (∀ c', c' < c → V2 (t + 12) c' = b2i (f_rule T L c' = true)) → V2 (t + 12) c = b2i (f_rule T L c = true) → wX6_heard_187 t Q2 (fun V x1 x3 x4 => wX6_heard_83 t Q2 n V x1 x3 x4) V2 (nI L) (nI a) (nI c) := by
            intro V2 j1 j2 j3
            refine ⟨vc, ?_⟩
            rw [nI_clamp (by omega), j3]
            rw [show 4096 - c = (4096 - (c + 1)) + 1 by omega] at i3
            change fo _ _ (c + 1) (if f_rule T L c = true then a + 1 else a) = _ at i3
            have all : ∀ c', c' < c + 1 → V2 (t + 12) c' = b2i (f_rule T L c' = true) := fun c' hc' => by
              by_cases q : c' = c
              · rw [q]; exact j3
              · exact j2 c' (by omega)
            refine p_bz ?_
            split
            · next z =>
              rw [if_pos z] at i3
              exact nm_r (nI_1 a) (nm_r (nI_1 c) (hk (V2, a + 1) ⟨j1, all, i3⟩))
            · next z =>
              rw [if_neg z] at i3
              exact nm_r (Int32.add_zero _) (nm_r (nI_1 c) (hk (V2, a) ⟨j1, all, i3⟩))
          have h116 : ∀ s : Int32, s = b2i (okCode c = true) → wX6_heard_116 t Q2 (fun V x1 x3 x4 => wX6_heard_83 t Q2 n V x1 x3 x4) V1 (nI L) (nI a) (nI c) (nI c) s := by
            intro s es
            have ns : ∀ b : Bool, vp_nar .boolean (b2i (b = true)) = b2i (b = true) := fun b => by cases b <;> rfl
            refine ⟨vc, L / 2 + 1, ?_⟩
            rw [nI_clamp (show c < 2 ^ 31 by omega), es, ns]
            refine vloop (fun n2 V2 k => wX6_heard_120 t Q2 (fun V x1 x3 x4 => wX6_heard_83 t Q2 n V x1 x3 x4) n2 V2 (nI L) (nI a) (nI c) (nI (2 * k))) (fun k V2 => (∀ a, a ≠ t + 12 → V2 a = V0 a) ∧ (∀ c', c' < c → V2 (t + 12) c' = b2i (f_rule T L c' = true)) ∧ ∃ u : Bool, V2 (t + 12) c = b2i (u = true) ∧ (u && allB (fun k => f_let c (T (2 * k)) == decide (T (2 * k + 1) = 1)) (L / 2 - k) k) = f_rule T L c) (L / 2) ?_ ?_ (L / 2) 0 _ (Nat.zero_add _) ?_
            · rintro n2 V2 ⟨j1, j2, u, j3, j4⟩
              rw [wX6_heard_120]
              rw [Nat.sub_self] at j4
              change (u && true) = _ at j4
              rw [Bool.and_true] at j4
              exact br_t (by rw [show 2 * (L / 2) = L by omega]; exact Int32.le_refl _) (h187 V2 j1 j2 (by rw [j3, j4]))
            · rintro n2 V2 k hk0 ⟨j1, j2, u, j3, j4⟩ hk2
              rw [wX6_heard_120, nI_1, nI_clamp (show c < 2 ^ 31 by omega), nI_clamp (show 2 * k < 2 ^ 31 by omega), nI_clamp (show 2 * k + 1 < 2 ^ 31 by omega), j1 (t + 5) (by omega), c2 _ (show 2 * k < L by omega), c2 _ (show 2 * k + 1 < L by omega), j3]
              refine br_f (nI_ge (by omega) (by omega)) ⟨vc, ?_⟩
              cases u with
              | false =>
                rw [Bool.false_and] at j4
                exact br_t rfl (h187 V2 j1 j2 (by rw [j3, j4]))
              | true =>
                rw [show L / 2 - k = (L / 2 - (k + 1)) + 1 by omega, Bool.true_and] at j4
                change ((f_let c (T (2 * k)) == decide (T (2 * k + 1) = 1)) && allB _ _ (k + 1)) = _ at j4
                refine br_f (by decide) ⟨vp_in_nI (by omega) (by decide), s6_isLetBy hc ⟨vp_in_nI (by omega) (by decide), ?_⟩⟩
                have e2' : nI (2 * k) + (2 : Int32) = nI (2 * (k + 1)) := by rw [show (2 : Int32) = nI 2 from rfl, nI_add]; rfl
                have h180 : ∀ s : Int32, s = b2i ((f_let c (T (2 * k)) == decide (T (2 * k + 1) = 1)) = true) → wX6_heard_180 t Q2 (fun V x1 x3 x4 => wX6_heard_83 t Q2 n V x1 x3 x4) (fun V x1 x3 x4 x5 => wX6_heard_120 t Q2 (fun V x1 x3 x4 => wX6_heard_83 t Q2 n V x1 x3 x4) n2 V x1 x3 x4 x5) V2 (nI L) (nI a) (nI c) (nI (2 * k)) (nI c) s := by
                  intro s es
                  refine ⟨vc, nm_r e2' ?_⟩
                  rw [nI_clamp (show c < 2 ^ 31 by omega), es, ns]
                  refine hk2 _ ⟨fun a ha => by rw [vset_n _ _ _ ha]; exact j1 a ha, fun c' hc' => by rw [vset_s, pk_un (by omega)]; exact j2 c' hc', _, by rw [vset_s, pk_us], j4⟩
                have h172 : ∀ s : Int32, s = b2i (T (2 * k + 1) = 1) → wX6_heard_172 t Q2 (fun V x1 x3 x4 => wX6_heard_83 t Q2 n V x1 x3 x4) (fun V x1 x3 x4 x5 => wX6_heard_120 t Q2 (fun V x1 x3 x4 => wX6_heard_83 t Q2 n V x1 x3 x4) n2 V x1 x3 x4 x5) V2 (nI L) (nI a) (nI c) (nI (2 * k)) (nI c) (b2i (f_let c (T (2 * k)) = true)) s := by
                  rintro s rfl
                  refine ⟨fun z => h180 _ ?_, fun z => h180 _ ?_⟩
                  · cases q : f_let c (T (2 * k)) <;> by_cases d : T (2 * k + 1) = 1 <;> simp_all [b2i]
                  · cases q : f_let c (T (2 * k)) <;> by_cases d : T (2 * k + 1) = 1 <;> simp_all [b2i]
                exact ⟨fun z => h172 _ (b2i_f z).symm, fun z => h172 _ (b2i_t z).symm⟩
            · refine ⟨fun a ha => by rw [vset_n _ _ _ ha]; exact i1 a ha, fun c' hc' => by rw [vset_s, pk_un (by omega)]; exact i2 c' hc', okCode c, by rw [vset_s, pk_us], rfl⟩
          rw [wX6_heard_83]
          refine br_f (nI_ge hc (by decide)) ⟨fun z => h116 _ ?_, fun z => h116 _ ?_⟩
          · rw [show okCode c = false from decide_eq_false z]; rfl
          · rw [show okCode c = true from decide_eq_true z]; rfl
  refine ⟨fun z => ?_, fun z => br_c (fun z2 => ?_) (fun z2 => ?_)⟩
  · rw [decide_eq_false (fun q => z (by rw [q.1]; rfl))] at go; exact go
  · rw [decide_eq_false (fun q => nI_nlt (b := L) (a := 40) q.2 (by decide) z2)] at go; exact go
  · rw [decide_eq_true ⟨(nI_eq (b := 0) (by omega) (by decide)).mp z, Nat.not_lt.mp fun q => z2 (nI_lt (a := 40) q (by omega))⟩] at go; exact go
end P8
