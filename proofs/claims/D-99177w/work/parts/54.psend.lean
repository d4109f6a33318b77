/-! ===== PURE: send ===== -/
def f_yes (T : Nat → Int32) (L q : Nat) : Nat := FR T L (fun c a => if f_let c (nI q) = true then a + 1 else a) 0
def f_mx (T : Nat → Int32) (L q : Nat) : Nat := if f_yes T L q < f_total T L - f_yes T L q then f_total T L - f_yes T L q else f_yes T L q
def sendStep (N : Nat) (mx : Nat → Nat) (q : Nat) (z : Int32 × Nat) : Int32 × Nat := if N < 2 then z else if mx q < z.2 then (nI q, mx q) else z
def f_send (T : Nat → Int32) (L : Nat) : Int32 := (fo (sendStep (f_total T L) (f_mx T L)) 64 0 (-1, 1000000)).1
def o_send (T : Nat → Int32) (L : Nat) : Ot := if f_told T L = true then .inl (f_send T L) else .inr (xIa, 1)
theorem yes_le {T : Nat → Int32} {L q : Nat} : f_yes T L q ≤ f_total T L := by
  have h : ∀ k i a b, a ≤ b → fo (fun c a => if f_rule T L c = true then (if f_let c (nI q) = true then a + 1 else a) else a) k i a ≤ fo (fun c a => if f_rule T L c = true then a + 1 else a) k i b := by
    intro k
    induction k with
    | zero => intro i a b h; exact h
    | succ k ih =>
      intro i a b h
      refine ih (i + 1) _ _ ?_
      try simp only
      split
      · split <;> omega
      · exact h
  exact h 4096 0 0 0 (Nat.le_refl _)
theorem mx_le {T : Nat → Int32} {L q : Nat} : f_mx T L q ≤ 4096 := by
  have a := yes_le (T := T) (L := L) (q := q)
  have b := total_le (T := T) (L := L)
  unfold f_mx
  split <;> omega
def gYes (q c : Nat) (z : Nat × Nat) : Nat × Nat := if f_let c (nI q) = true then (z.1 + 1, z.2) else (z.1, z.2 + 1)
theorem gYes_comm (q c d : Nat) (z : Nat × Nat) : gYes q c (gYes q d z) = gYes q d (gYes q c z) := by
  unfold gYes
  cases f_let c (nI q) <;> cases f_let d (nI q) <;> rfl
theorem gYes_FR {T : Nat → Int32} {L q : Nat} : (FR T L (gYes q) (0, 0)).1 = f_yes T L q ∧ (FR T L (gYes q) (0, 0)).1 + (FR T L (gYes q) (0, 0)).2 = f_total T L := by
  constructor
  · exact FR_map (f := fun z : Nat × Nat => z.1) (g := gYes q) (g2 := fun c a => if f_let c (nI q) = true then a + 1 else a) (fun c a => by
      unfold gYes
      cases f_let c (nI q) <;> rfl) (0, 0)
  · exact FR_map (f := fun z : Nat × Nat => z.1 + z.2) (g := gYes q) (g2 := fun c a => a + 1) (fun c a => by
      unfold gYes
      cases f_let c (nI q)
      · show a.1 + (a.2 + 1) = a.1 + a.2 + 1; omega
      · show a.1 + 1 + a.2 = a.1 + a.2 + 1; omega) (0, 0)
theorem send_le {N : Nat} {mx : Nat → Nat} {q : Nat} {z : Int32 × Nat} {M : Nat} (h : z.2 ≤ M) : (sendStep N mx q z).2 ≤ M := by
  unfold sendStep
  by_cases c : N < 2
  · rw [if_pos c]; exact h
  · rw [if_neg c]
    by_cases d : mx q < z.2
    · rw [if_pos d]; exact Nat.le_trans (Nat.le_of_lt d) h
    · rw [if_neg d]; exact h
theorem yes_pair {T : Nat → Int32} {L q : Nat} : ∃ w : Nat × Nat, fo (fun i z => if f_fit T L (ruleOf i) = true then gYes q (ruleOf i) z else z) 729 0 (0, 0) = w ∧ w.1 + w.2 = f_total T L ∧ f_mx T L q = if w.1 < w.2 then w.2 else w.1 := by
  obtain ⟨y1, y2⟩ := gYes_FR (T := T) (L := L) (q := q)
  have ez : fo (fun i z => if f_fit T L (ruleOf i) = true then gYes q (ruleOf i) z else z) 729 0 (0, 0) = FR T L (gYes q) (0, 0) := comp_FR (gYes_comm q) _
  refine ⟨_, ez, y2, ?_⟩
  unfold f_mx
  rw [← y1, ← y2]
  generalize FR T L (gYes q) (0, 0) = w
  rw [show w.1 + w.2 - w.1 = w.2 by omega]
theorem yes_one {T : Nat → Int32} {L q : Nat} : ∃ y, fo (fun c a => if f_rule T L c = true then (if f_let c (nI q) = true then a + 1 else a) else a) 4096 0 0 = y ∧ y ≤ f_total T L ∧ f_mx T L q = if y < f_total T L - y then f_total T L - y else y := ⟨f_yes T L q, rfl, yes_le, rfl⟩
theorem send_start {N : Nat} {mx : Nat → Nat} (h : ¬ N < 2) {M : Nat} (hm : mx 0 < M) (k : Nat) : fo (sendStep N mx) (k + 1) 0 (-1, M) = fo (sendStep N mx) k 1 (nI 0, mx 0) := by
  have : sendStep N mx 0 (-1, M) = (nI 0, mx 0) := by
    unfold sendStep
    rw [if_neg h, if_pos hm]
  rw [← this]
  rfl
section P10
variable {x t : Nat} {V : Nat → Nat → Int32} {m T : Nat → Int32} {L : Nat} {Q : Int32 → Prop} {Q0 : (Nat → Nat → Int32) → Prop} {Q2 : Int32 → (Nat → Nat → Int32) → Prop} {P : Prop} {X : String → (Nat → Nat → Int32) → Prop}
theorem s1_send (hT : L ≤ 400) (hC : TapeC V (x + 109) L T) (hq : ∀ V', (∀ a, a ≠ x + 157 → a ≠ x + 158 → V' a = begun V (x + 109) a) → oC (o_send T L) (fun r => Q2 r V') (fun e => X e V')) : wX1_send x V Q2 X := by
  refine s1_lays hT hC ?_
  split
  · next c =>
    intro V' f hV hr ht
    have hq := hq V' f
    unfold o_send at hq
    rw [if_pos c] at hq
    obtain ⟨c2, c40⟩ := told_40 c
    change Q2 (f_send T L) V' at hq
    unfold f_send at hq
    have yp := fun q => yes_pair (T := T) (L := L) (q := q)
    have ml := fun q => mx_le (T := T) (L := L) (q := q)
    have tl := total_le (T := T) (L := L)
    generalize f_mx T L = mx at *
    generalize f_total T L = N at *
    refine fo_loopI (fun n (z : Int32 × Nat) q => wX1_send_16 x Q2 X n V' z.1 (nI z.2) (nI q)) (sendStep N mx) (fun z => Q2 z.1 V') (fun _ z => z.2 ≤ 1000000) 64 ?_ (fun i a _ h => send_le h) ?_ 64 0 (-1, 1000000) rfl (Nat.le_refl _) hq
    · intro n z hP
      rw [wX1_send_16]
      exact br_t (Int32.le_refl _) hP
    · intro n z q hq64 hz hk
      rw [wX1_send_16]
      refine br_f (nI_ge hq64 (by decide)) ?_
      obtain ⟨w, ez, y2, emx⟩ := yp q
      have ml := ml q
      refine fo_loop (fun n2 (w : Nat × Nat) i => wX1_send_31 x Q2 X (fun V x1 x2 x3 => wX1_send_16 x Q2 X n V x1 x2 x3) n2 V' z.1 (nI z.2) (nI q) (nI w.1) (nI w.2) (nI i)) (fun i z => if f_fit T L (ruleOf i) = true then gYes q (ruleOf i) z else z) (fun w' => w' = w) 729 ?_ ?_ 729 0 (0, 0) rfl ez
      · rintro n2 w' rfl
        have emx2 : (if nI w'.1 < nI w'.2 then nI w'.2 else nI w'.1) = nI (mx q) := by
          rw [emx]
          by_cases c : w'.1 < w'.2
          · rw [if_pos c, if_pos (nI_lt c (by omega))]
          · rw [if_neg c, if_neg (fun q => c ((nI_ltI (by omega) (by omega)).mp q))]
        rw [wX1_send_31, nI_add, emx2, y2]
        unfold sendStep at hk
        refine br_t (Int32.le_refl _) (br_c (fun z1 => ?_) (fun z1 => br_c (fun z2 => ?_) (fun z2 => ?_)))
        · rw [if_pos ((nI_ltI (b := 2) (by omega) (by decide)).mp z1)] at hk
          exact nm_r (nI_1 q) hk
        · rw [if_neg (fun q => z1 (nI_lt (b := 2) q (by omega))), if_pos ((nI_ltI (by omega) (by omega)).mp z2)] at hk
          exact nm_e (nm_r (nI_1 q) hk)
        · rw [if_neg (fun q => z1 (nI_lt (b := 2) q (by omega))), if_neg (fun q => z2 (nI_lt q (by omega)))] at hk
          exact nm_r (nI_1 q) hk
      · intro n2 w' i hi hk2
        rw [wX1_send_31]
        refine br_f (nI_ge hi (by decide)) (s1_fits hV hi c40 c2 hr ht ⟨fun z1 => ?_, fun z1 => ?_⟩)
        · have z1 := Classical.byContradiction (fun q => z1 (b2i_f q))
          rw [if_pos z1] at hk2
          unfold gYes at hk2
          refine s1_passes hV hi (p_bz ?_)
          split
          · next z2 => rw [if_pos z2] at hk2; exact nm_r (nI_1 _) (nm_r (nI_1 i) hk2)
          · next z2 => rw [if_neg z2] at hk2; exact nm_r (nI_1 _) (nm_r (nI_1 i) hk2)
        · have z1 := b2i_0.mp z1
          rw [if_neg z1] at hk2
          exact nm_r (nI_1 i) hk2
  · next c =>
    have hq := hq _ (fun _ _ _ => rfl)
    unfold o_send at hq
    rw [if_neg c] at hq
    exact hq
theorem s6_send (hT : TapeOk T L) (hC : TapeT V t L T) (hq : ∀ V', (∀ a, a ≠ t + 12 → V' a = vset V t 8 0 a) → oT (o_send T L) t V' Q2) : wX6_send t V Q2 := by
  refine s6_heard hT hC ?_
  split
  · next c =>
    intro V' f hV
    have hq := hq V' f
    unfold o_send at hq
    rw [if_pos c] at hq
    have tl := total_le (T := T) (L := L)
    refine br_f (nI_nm1 (by omega)) ?_ |> fun h => ⟨h.2, h.1⟩
    change Q2 _ _ at hq
    have e12 : vset V' t 0 0 (t + 12) = V' (t + 12) := vset_n _ _ _ (by omega)
    rw [← e12] at hV
    refine t_thr ?_
    rw [if_pos (by decide)]
    generalize vset V' t 0 0 = V1 at *
    unfold f_send at hq
    have yp := fun q => yes_one (T := T) (L := L) (q := q)
    have ml := fun q => mx_le (T := T) (L := L) (q := q)
    generalize f_mx T L = mx at *
    generalize f_total T L = N at *
    by_cases c1 : N < 2
    · have e : (fo (sendStep N mx) 64 0 (-1, 1000000)).1 = -1 := by
        have := fo_inv (f := sendStep N mx) (fun _ z => z = ((-1 : Int32), 1000000)) 64 0 (-1, 1000000) rfl (fun j b _ _ hb => by
          subst hb
          exact if_pos c1)
        rw [this]
      rw [e] at hq
      refine ⟨1, ?_⟩
      rw [wX6_send_37]
      exact br_f (by decide) (br_t (nI_le (b := 1) (by omega) (by decide)) hq)
    · have e : (fo (sendStep N mx) 64 0 (-1, 1000000)).1 = (fo (sendStep N mx) 64 0 (-1, 2000000000)).1 := by
        have ml := ml 0
        rw [send_start c1 (M := 1000000) (by omega) 63, send_start c1 (M := 2000000000) (by omega) 63]
      rw [e] at hq
      refine fo_loopI (fun n (z : Int32 × Nat) q => wX6_send_37 t Q2 n V1 (nI N) z.1 (nI z.2) (nI q)) (sendStep N mx) (fun z => Q2 z.1 V1) (fun _ z => z.2 ≤ 2000000000) 64 ?_ (fun i a _ h => send_le h) ?_ 64 0 (-1, 2000000000) rfl (Nat.le_refl _) hq
      · intro n z hP
        rw [wX6_send_37]
        exact br_t (Int32.le_refl _) hP
      · intro n z q hq64 hz hk
        rw [wX6_send_37]
        refine br_f (nI_ge hq64 (by decide)) (br_f (nI_ge (a := 1) (by omega) (by omega)) ?_)
        obtain ⟨y0, ey, yl, emx⟩ := yp q
        have ml := ml q
        refine fo_loop (fun n2 (y : Nat) c => wX6_send_55 t Q2 (fun V x1 x2 x3 x4 => wX6_send_37 t Q2 n V x1 x2 x3 x4) n2 V1 (nI N) z.1 (nI z.2) (nI q) (nI y) (nI c)) (fun c a => if f_rule T L c = true then (if f_let c (nI q) = true then a + 1 else a) else a) (fun y => y = y0) 4096 ?_ ?_ 4096 0 0 rfl ey
        · rintro n2 y rfl
          have gr : ∀ Q : Int32 → Prop, Q (nI (mx q)) → wX6_greater (nI y) (nI N - nI y) Q := by
            intro Q h
            rw [emx] at h
            rw [pk_sub yl]
            refine br_c (fun z1 => ?_) (fun z1 => ?_)
            · have z2 := (nI_leI (by omega) (by omega)).mp z1
              by_cases c : y < N - y
              · rw [if_pos c] at h; exact h
              · rw [if_neg c] at h
                rw [show N - y = y by omega]
                exact h
            · rw [if_neg (fun q2 => z1 (nI_le (Nat.le_of_lt q2) (by omega)))] at h; exact h
          rw [wX6_send_55]
          unfold sendStep at hk
          rw [if_neg c1] at hk
          refine br_t (Int32.le_refl _) (gr _ (br_c (fun z1 => gr _ ?_) (fun z1 => ?_)))
          · rw [if_pos ((nI_ltI (by omega) (by omega)).mp z1)] at hk
            exact nm_r (nI_1 q) hk
          · rw [if_neg (fun q => z1 (nI_lt q (by omega)))] at hk
            exact nm_r (nI_1 q) hk
        · intro n2 y c hc hk2
          have vc : vp_in (nI c) 4096 := vp_in_nI hc (by decide)
          rw [wX6_send_55, nI_clamp (show c < 2 ^ 31 by omega), hV c hc]
          refine br_f (nI_ge hc (by decide)) ⟨vc, p_bz ?_⟩
          split
          · next z2 =>
            rw [if_pos z2] at hk2
            refine s6_isLetBy hc (p_bz ?_)
            split
            · next z3 => rw [if_pos z3] at hk2; exact nm_r (nI_1 y) (nm_r (nI_1 c) hk2)
            · next z3 => rw [if_neg z3] at hk2; exact nm_r (Int32.add_zero _) (nm_r (nI_1 c) hk2)
          · next z2 => rw [if_neg z2] at hk2; exact nm_r (Int32.add_zero _) (nm_r (nI_1 c) hk2)
  · next c =>
    have hq := hq _ (fun _ _ => rfl)
    unfold o_send at hq
    rw [if_neg c] at hq
    refine ⟨fun z => absurd rfl z, fun _ => ?_⟩
    exact t_thr (by rw [if_neg (by decide)]; exact hq _)
end P10
