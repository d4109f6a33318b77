/-! ===== PURE: acts of the twin ===== -/
def a_book (m : Row) (a g q : Int32) : Ot × Row := if allP m a g q then (if f_can m a.toNatClampNeg g.toNatClampNeg q ∧ ¬ isOf (f_busy m g) q then (.inl (m (195 + 8 * a.toNatClampNeg + q.toNatClampNeg)), upd m (195 + 8 * a.toNatClampNeg + q.toNatClampNeg) g) else (.inr (xIs, 2), m)) else (.inr (xIo, 1), m)
def a_strike (m : Row) (a q : Int32) : Ot × Row := if isHostP m a ∧ isQuarterP q then (if m (195 + 8 * a.toNatClampNeg + q.toNatClampNeg) = -1 then (.inr (xIs, 2), m) else (.inl (m (195 + 8 * a.toNatClampNeg + q.toNatClampNeg)), upd m (195 + 8 * a.toNatClampNeg + q.toNatClampNeg) (-1))) else (.inr (xIo, 1), m)
def a_change (m : Row) (a b q : Int32) : Ot × Row := if isHostP m a ∧ isHostP m b ∧ isQuarterP q then (if a = b then (.inr (xIa, 2), m) else (.inl (m (195 + 8 * b.toNatClampNeg + q.toNatClampNeg)), upd (upd m (195 + 8 * a.toNatClampNeg + q.toNatClampNeg) (m (195 + 8 * b.toNatClampNeg + q.toNatClampNeg))) (195 + 8 * b.toNatClampNeg + q.toNatClampNeg) (m (195 + 8 * a.toNatClampNeg + q.toNatClampNeg)))) else (.inr (xIo, 1), m)
def a_mark (m : Row) (g k : Int32) : Ot × Row := if isGuestP m g then (if inI k 0 63 then (.inl (m (45 + 3 * g.toNatClampNeg)), upd m (45 + 3 * g.toNatClampNeg) k) else (.inr (xIa, 2), m)) else (.inr (xIo, 1), m)
def a_gate (m : Row) (a b : Int32) : Ot × Row := if inI a 0 63 ∧ inI b 0 63 then (.inl (64 * m 7 + m 8), upd (upd m 7 a) 8 b) else (.inr (xIa, 1), m)
def valK (a g by9 : Int32) : Nat := if by9 = 0 then 131 + 8 * g.toNatClampNeg + a.toNatClampNeg else 67 + 8 * a.toNatClampNeg + g.toNatClampNeg
def a_value (m : Row) (a g by9 k : Int32) : Ot × Row := if isHostP m a ∧ isGuestP m g then (if inI k 0 9 then (.inl (m (valK a g by9)), upd m (valK a g by9) k) else (.inr (xIa, 2), m)) else (.inr (xIo, 1), m)
def a_weeks (m : Row) (law : Option (List Ln)) (k : Int32) : Ot × Row := if inI k 1 60 then (.inl (weeksR true true law k.toNatClampNeg m).2.1, (weeksR true true law k.toNatClampNeg m).1) else (.inr (xIa, 1), m)
section TB
variable {sh : List jH} {R : Nat → Nat → Option Nat} {V : Nat → Nat → Int32} {t : Nat} {D : St} {a b g q k : Int32} {Q : Int32 → (Nat → Nat → Int32) → Prop}
/-- what was thrown at last -/
theorem t_thr1 {s : Int32} {A B : Prop} {V1 : Nat → Nat → Int32} (h : if s ≤ 0 then A else B) : ((vset V1 t 0 s t 0) ≤ 0 → A) ∧ (¬ (vset V1 t 0 s t 0) ≤ 0 → B) := t_thr h
theorem t_book (hI : TI V t D) (hO : StOk D) (hq : oP (a_book (sM D) a g q).1 V t (actD D (a_book (sM D) a g q)) Q) : wX6_book t V a g q Q := by
  have hm := hI.row
  have hR := hO.1
  refine s6_areThere ?_
  rw [hm]
  have h0 := TP.thr (e := 0) hI
  have h1 := TP.thr (e := 1) hI
  unfold a_book at hq
  by_cases c : allP (sM D) a g q
  · rw [if_pos c] at hq ⊢
    refine ⟨fun _ => ?_, fun z => absurd z (by decide)⟩
    obtain ⟨ca, cg, cq⟩ := c
    obtain ⟨i, hi, hi8, rfl⟩ := hR.host ca
    obtain ⟨j, hj, hj8, rfl⟩ := hR.guest cg
    obtain ⟨p, hp8, rfl⟩ := quarter_nat cq
    rw [cl8 hi8, cl8 hj8, cl8 hp8] at hq
    have e1 : vset V t 0 0 (t + 1) = sM D := h0.1.row
    have bad : ¬ (f_can (sM D) i j (nI p) ∧ ¬ isOf (f_busy (sM D) (nI j)) (nI p)) → wX6_book_35 t (nI i) (nI j) (nI p) Q (vset V t 0 0) := by
      intro w
      rw [if_neg w] at hq
      exact t_thr1 (by rw [if_neg (by decide)]; exact hq _ _ h0.thr2)
    refine s6_canMeet hi8 hj8 (p_bz ?_)
    rw [e1]
    split
    · next w1 =>
      refine s6_busyOf (by rw [e1]; exact hR) (s6_isOf (p_bz ?_))
      rw [e1]
      split
      · next w2 => exact bad (fun w => w.2 w2)
      · next w2 =>
        rw [if_pos ⟨w1, w2⟩] at hq
        refine t_thr1 ?_
        rw [if_pos (by decide), show (195 : Int32) + 8 * nI i + nI p = nI (195 + 8 * i + p) from p_ix3 195 8 i p]
        refine s6_sets (h0.thr2 (e := 0)).1 hO (by omega) (fun V' h2 => hq _ ?_)
        have h3 := (h0.thr2 (e := 0)).trans h2
        rw [vt0] at h3
        exact h3
    · next w1 => exact bad (fun w => w1 w.1)
  · rw [if_neg c] at hq ⊢
    exact ⟨fun z => absurd rfl z, fun _ => hq _ _ h1⟩
theorem t_strike (hI : TI V t D) (hO : StOk D) (hq : oP (a_strike (sM D) a q).1 V t (actD D (a_strike (sM D) a q)) Q) : wX6_strike t V a q Q := by
  have hm := hI.row
  have hR := hO.1
  unfold a_strike at hq
  have h1 := TP.thr (e := 1) hI
  have h0 := TP.thr (e := 0) hI
  have bad : ¬ (isHostP (sM D) a ∧ isQuarterP q) → wX6_strike_16 t a q Q V := by
    intro w
    rw [if_neg w] at hq
    exact t_thr1 (by rw [if_neg (by decide)]; exact hq _ _ h1)
  refine s6_isHost (p_bz ?_)
  rw [hm]
  split
  · next c1 =>
    refine s6_isQuarter (p_bn ?_)
    split
    · next c2 =>
      rw [if_pos ⟨c1, c2⟩] at hq
      refine t_thr1 ?_
      rw [if_pos (by decide)]
      have e1 : vset V t 0 0 (t + 1) = sM D := h0.1.row
      obtain ⟨i, hi, hi8, rfl⟩ := hR.host c1
      obtain ⟨p, hp8, rfl⟩ := quarter_nat c2
      rw [cl8 hi8, cl8 hp8] at hq
      refine s6_bookedIn hi8 hp8 ?_
      rw [e1]
      by_cases w : sM D (195 + 8 * i + p) = -1
      · rw [if_pos w] at hq
        exact ⟨fun z => absurd w z, fun _ => t_thr1 (by rw [if_neg (by decide)]; exact hq _ _ h0.thr2)⟩
      · rw [if_neg w] at hq
        refine ⟨fun _ => t_thr1 ?_, fun z => absurd z w⟩
        rw [if_pos (by decide), show (195 : Int32) + 8 * nI i + nI p = nI (195 + 8 * i + p) from p_ix3 195 8 i p]
        refine s6_sets (h0.thr2 (e := 0)).1 hO (by omega) (fun V' h2 => hq _ ?_)
        have h3 := (h0.thr2 (e := 0)).trans h2
        rw [vt0] at h3
        exact h3
    · next c2 => exact bad (fun w => c2 w.2)
  · next c1 => exact bad (fun w => c1 w.1)
theorem t_change (hI : TI V t D) (hO : StOk D) (hq : oP (a_change (sM D) a b q).1 V t (actD D (a_change (sM D) a b q)) Q) : wX6_change t V a b q Q := by
  have hm := hI.row
  have hR := hO.1
  unfold a_change at hq
  have h1 := TP.thr (e := 1) hI
  have h0 := TP.thr (e := 0) hI
  have bad : ¬ (isHostP (sM D) a ∧ isHostP (sM D) b ∧ isQuarterP q) → wX6_change_24 t a b q Q V := by
    intro w
    rw [if_neg w] at hq
    exact t_thr1 (by rw [if_neg (by decide)]; exact hq _ _ h1)
  refine s6_isHost (p_bz ?_)
  rw [hm]
  split
  · next c1 =>
    refine s6_isHost (p_bz ?_)
    rw [hm]
    split
    · next c2 =>
      refine s6_isQuarter (p_bn ?_)
      split
      · next c3 =>
        rw [if_pos ⟨c1, c2, c3⟩] at hq
        by_cases w : a = b
        · rw [if_pos w] at hq
          exact ⟨fun z => absurd w z, fun _ => t_thr1 (by rw [if_neg (by decide)]; exact hq _ _ (TP.thr hI))⟩
        · rw [if_neg w] at hq
          refine ⟨fun _ => t_thr1 ?_, fun z => absurd z w⟩
          rw [if_pos (by decide)]
          have e1 : vset V t 0 0 (t + 1) = sM D := h0.1.row
          obtain ⟨i, hi, hi8, rfl⟩ := hR.host c1
          obtain ⟨j, hj, hj8, rfl⟩ := hR.host c2
          obtain ⟨p, hp8, rfl⟩ := quarter_nat c3
          rw [cl8 hi8, cl8 hj8, cl8 hp8] at hq
          refine s6_bookedIn hj8 hp8 ?_
          rw [e1, show (195 : Int32) + 8 * nI i + nI p = nI (195 + 8 * i + p) from p_ix3 195 8 i p, show (195 : Int32) + 8 * nI j + nI p = nI (195 + 8 * j + p) from p_ix3 195 8 j p, nI_clamp (n := 195 + 8 * j + p) (by omega)]
          refine s6_sets h0.1 hO (by omega) (fun V' h2 => ⟨vp_in_nI (by omega) (by decide), ?_⟩)
          have h3 := h0.trans h2
          rw [vt0] at h3
          exact h3.put (P := Q _) (fun h4 => hq _ h4)
      · next c3 => exact bad (fun w => c3 w.2.2)
    · next c2 => exact bad (fun w => c2 w.2.1)
  · next c1 => exact bad (fun w => c1 w.1)
theorem t_mark (hI : TI V t D) (hO : StOk D) (hq : oP (a_mark (sM D) g k).1 V t (actD D (a_mark (sM D) g k)) Q) : wX6_mark t V g k Q := by
  have hm := hI.row
  have hR := hO.1
  unfold a_mark at hq
  have h0 := TP.thr (e := 0) hI
  refine s6_isGuest (p_bn ?_)
  rw [hm]
  split
  · next c1 =>
    rw [if_pos c1] at hq
    refine s6_isIn (p_bn ?_)
    split
    · next c2 =>
      rw [if_pos c2] at hq
      refine t_thr1 ?_
      obtain ⟨j, hj, hj8, rfl⟩ := hR.guest c1
      rw [cl8 hj8] at hq
      rw [if_pos (by decide), show (43 : Int32) + 3 * nI j + 2 = nI (45 + 3 * j) from (p_ix3 43 3 j 2).trans (by rw [show 43 + 3 * j + 2 = 45 + 3 * j by omega])]
      refine s6_sets h0.1 hO (by omega) (fun V' h2 => hq _ ?_)
      have h3 := h0.trans h2
      rw [vt0] at h3
      exact h3
    · next c2 =>
      rw [if_neg c2] at hq
      exact t_thr1 (by rw [if_neg (by decide)]; exact hq _ _ (TP.thr hI))
  · next c1 =>
    rw [if_neg c1] at hq
    exact t_thr1 (by rw [if_neg (by decide)]; exact hq _ _ (TP.thr hI))
theorem t_gate (hI : TI V t D) (hO : StOk D) (hq : oP (a_gate (sM D) a b).1 V t (actD D (a_gate (sM D) a b)) Q) : wX6_gate t V a b Q := by
  have hm := hI.row
  unfold a_gate at hq
  have h1 := TP.thr (e := 1) hI
  have h0 := TP.thr (e := 0) hI
  have bad : ¬ (inI a 0 63 ∧ inI b 0 63) → wX6_gate_21 t a b Q V := by
    intro w
    rw [if_neg w] at hq
    exact t_thr1 (by rw [if_neg (by decide)]; exact hq _ _ h1)
  refine s6_isIn (p_bz ?_)
  split
  · next c1 =>
    refine s6_isIn (p_bn ?_)
    split
    · next c2 =>
      rw [if_pos ⟨c1, c2⟩] at hq
      refine t_thr1 ?_
      rw [if_pos (by decide)]
      refine nm_r (e' := sM D 8) (by rw [h0.1.row]) ?_
      refine s6_sets (i := 7) h0.1 hO (by decide) (fun V' h2 => ?_)
      have h3 := h0.trans h2
      rw [vt0] at h3
      exact h3.put (P := Q _) (fun h4 => hq _ h4)
    · next c2 => exact bad (fun w => c2 w.2)
  · next c1 => exact bad (fun w => c1 w.1)
theorem t_value (hI : TI V t D) (hO : StOk D) (hq : oP (a_value (sM D) a g b k).1 V t (actD D (a_value (sM D) a g b k)) Q) : wX6_value t V a g b k Q := by
  have hm := hI.row
  have hR := hO.1
  unfold a_value at hq
  have h1 := TP.thr (e := 1) hI
  have h0 := TP.thr (e := 0) hI
  have bad : ¬ (isHostP (sM D) a ∧ isGuestP (sM D) g) → wX6_value_17 t a g b k Q V := by
    intro w
    rw [if_neg w] at hq
    exact t_thr1 (by rw [if_neg (by decide)]; exact hq _ _ h1)
  refine s6_isHost (p_bz ?_)
  rw [hm]
  split
  · next c1 =>
    refine s6_isGuest (p_bn ?_)
    rw [hm]
    split
    · next c2 =>
      rw [if_pos ⟨c1, c2⟩] at hq
      refine s6_isIn (p_bn ?_)
      split
      · next c3 =>
        rw [if_pos c3] at hq
        refine t_thr1 ?_
        rw [if_pos (by decide)]
        obtain ⟨i, hi, hi8, rfl⟩ := hR.host c1
        obtain ⟨j, hj, hj8, rfl⟩ := hR.guest c2
        unfold valK at hq
        rw [cl8 hi8, cl8 hj8] at hq
        have fin : ∀ w, w < 1019 → (∀ V', TP V t (upd (sM D) w k, sW D, sI D, remA (sA D) (sM D), sT D, sL D, sF D) 0 V' → Q (sM D w) V') → wX6_value_76 t (nI i) (nI j) b k Q (vset V t 0 0) (nI w) := by
          intro w hw h
          refine s6_sets h0.1 hO hw (fun V' h2 => h _ ?_)
          have h3 := h0.trans h2
          rw [vt0] at h3
          exact h3
        refine ⟨fun z => ?_, fun z => ?_⟩
        · rw [if_pos z] at hq
          rw [show (131 : Int32) + 8 * nI j + nI i = nI (131 + 8 * j + i) from p_ix3 131 8 j i]
          exact fin _ (by omega) hq
        · rw [if_neg z] at hq
          rw [show (67 : Int32) + 8 * nI i + nI j = nI (67 + 8 * i + j) from p_ix3 67 8 i j]
          exact fin _ (by omega) hq
      · next c3 =>
        rw [if_neg c3] at hq
        exact t_thr1 (by rw [if_neg (by decide)]; exact hq _ _ (TP.thr hI))
    · next c2 => exact bad (fun w => c2 w.2)
  · next c1 => exact bad (fun w => c1 w.1)
theorem in1_60 {k : Int32} (h : inI k 1 60) : ∃ n, 1 ≤ n ∧ n ≤ 60 ∧ k = nI n ∧ k.toNatClampNeg = n := by
  obtain ⟨h1, h2⟩ := h
  have h3 : ¬ k < 0 := fun z => h1 (Int32.lt_trans z (by decide))
  obtain ⟨n, hn, rfl⟩ := (inI_lit (n := 60) (by decide)).mp ⟨h3, h2⟩
  rw [show (1 : Int32) = nI 1 from rfl, nI_ltI (by omega) (by decide)] at h1
  exact ⟨n, by omega, hn, rfl, nI_clamp (by omega)⟩
theorem TP.tw {V1 V2 : Nat → Nat → Int32} (h : TP V t D k V1) (hA : TwF V1 t V2) : TP V t (V2 (t + 1), D.2) k V2 := by
  obtain ⟨⟨a1, a2, a3, a4, a5, a6, a7, a8, a9⟩, b1, b2⟩ := h
  obtain ⟨c1, c2, c3, c4⟩ := hA
  have e := fun b (hb : b ≠ t ∧ b ≠ t + 1 ∧ b ≠ t + 6) => c1 b hb.1 hb.2.1 hb.2.2
  exact ⟨⟨rfl, a2.frame (e _ (by omega)) (c2 3 (by omega)), by rw [c2 6 (by omega)]; exact a3, fun i j hi hj => by rw [e _ (by omega)]; exact a4 i j hi hj, by rw [c2 8 (by omega)]; exact a5, fun i hi => by rw [e _ (by omega)]; exact a6 i hi, by rw [c2 12 (by omega)]; exact a7, c3, c4⟩, by rw [c2 0 (by omega)]; exact b1, fun b hb => by rw [e b (by omega)]; exact b2 b hb⟩
theorem t_weeks (hC : ConSh sh) (hI : TI V t D) (hO : StOk D) (hq : oP (a_weeks (sM D) (sW D) k).1 V t (actD D (a_weeks (sM D) (sW D) k)) Q) : wX6_weeks t sh R V k Q := by
  unfold a_weeks at hq
  have h0 := TP.thr (e := 0) hI
  refine s6_isIn (p_bn ?_)
  split
  · next c1 =>
    rw [if_pos c1] at hq
    refine t_thr1 ?_
    rw [if_pos (by decide)]
    obtain ⟨n, hn1, hn, rfl, hcl⟩ := in1_60 c1
    rw [hcl] at hq
    refine s6_remembers h0.1 hO (fun V1 h1 => ?_)
    have h3 := h0.trans h1
    rw [vt0] at h3
    have hm : V1 (t + 1) = sM D := h3.1.row
    refine s6_goes1 hC (by rw [hm]; exact hO.1) (by rw [hm]; exact hO.2.1) h3.1.j15 h3.1.j16 hn (fun V2 f2 e2 _ => ?_)
    have h4 := h3.tw f2
    rw [e2, hm] at h4
    rw [hm]
    exact hq _ h4
  · next c1 =>
    rw [if_neg c1] at hq
    exact t_thr1 (by rw [if_neg (by decide)]; exact hq _ _ (TP.thr hI))
end TB
