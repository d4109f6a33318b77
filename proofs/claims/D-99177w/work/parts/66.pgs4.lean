/-! ===== PURE: both best ways of the component (printed by tools/gen_gs2.py) ===== -/
def gs0 : GS := (fun _ => -1, fun _ => -1, fun _ => 0)
theorem gs0_ok {A B : Nat} : gsOk A B gs0 := ⟨fun _ => by show (0 : Nat) < 256; decide, fun _ => ⟨Or.inl rfl, Or.inl rfl⟩⟩
def gsWay (r1 r2 : Nat → Nat → Int32 → Bool) (A B : Nat) : GS := iter (gsPass r1 r2 A B) 64 gs0
section PG4
variable {x : Nat} {V : Nat → Nat → Int32} {m : Nat → Int32} {Q0 : (Nat → Nat → Int32) → Prop} {Q2 : Int32 → (Nat → Nat → Int32) → Prop} {X : String → (Nat → Nat → Int32) → Prop} {s : GS} {h : Int32}
theorem sJ_fill {r : Nat} {v : Int32} (hq : ∀ V', (∀ a, a ≠ r → V' a = V a) → (∀ k, k < 8 → V' r k = v) → Q0 V') : wJ9_fill r V v Q0 := by
  refine ⟨8 + 1, vloop (fun n V1 k => wJ9_fill_5 r v Q0 n V1 (nI k) 8) (fun i V1 => (∀ a, a ≠ r → V1 a = V a) ∧ ∀ k, k < i → V1 r k = v) 8 ?_ ?_ 8 0 V rfl ⟨fun _ _ => rfl, fun k hk => absurd hk (Nat.not_lt_zero _)⟩⟩
  · rintro n V1 ⟨i1, i2⟩
    rw [wJ9_fill_5]
    exact br_t (Int32.le_refl _) (hq V1 i1 i2)
  · rintro n V1 k hk ⟨i1, i2⟩ hK
    rw [wJ9_fill_5, cl8 hk]
    refine br_f (nI_ge hk (by decide)) ⟨in8 hk, nm_r (nI_1 k) (hK _ ⟨fun a ha => by rw [vset_n _ _ _ ha]; exact i1 a ha, fun j hj => ?_⟩)⟩
    rw [vset_s]
    by_cases c : j = k
    · rw [c, pk_us]
    · rw [pk_un c]; exact i2 j (by omega)
theorem s5_clears (hq : ∀ V', (∀ a, a ≠ x + 149 + 1 → a ≠ x + 149 + 2 → V' a = V a) → (∀ k, k < 8 → V' (x + 149 + 1) k = -1 ∧ V' (x + 149 + 2) k = -1) → Q0 V') : wX5_clears x V Q0 := by
  refine sJ_fill (fun V1 f1 e1 => sJ_fill (fun V2 f2 e2 => hq V2 (fun a h1 h2 => (f2 a h2).trans (f1 a h1)) (fun k hk => ⟨?_, e2 k hk⟩)))
  rw [f2 _ (by omega)]
  exact e1 k hk
theorem s5_byHosts (hW : WRel V (x + 1) m) (hR : RowOk m) (hq : ∀ V', (∀ r, r ≠ x + 149 + 1 → r ≠ x + 149 + 2 → r ≠ x + 149 + 3 → V' r = V r) → PRel V' x 1 2 (gsWay (f_hr m) (f_gr m) (nH m) (nG m)) → Q0 V') : wX5_byHosts x V Q0 := by
  have h8 := hR.H8; have g8 := hR.G8; have hA := hR.H
  have w0 : ∀ V1 : Nat → Nat → Int32, (∀ r, r ≠ x + 149 + 1 → r ≠ x + 149 + 2 → r ≠ x + 149 + 3 → V1 r = V r) → WRel V1 (x + 1) m := fun V1 f => hW.frame (fun a h1 h2 => f a (by omega) (by omega) (by omega)) h8 g8
  refine s5_clears (fun V1 f1 e1 => sJ_fill (fun V2 f2 e2 => ?_))
  have f3 : ∀ r, r ≠ x + 149 + 1 → r ≠ x + 149 + 2 → r ≠ x + 149 + 3 → V2 r = V r := fun r r1 r2 r3 => (f2 r r3).trans (f1 r r1 r2)
  have p0 : PRel V2 x 1 2 gs0 := fun k hk => ⟨by rw [f2 _ (by omega)]; exact (e1 k hk).1, by rw [f2 _ (by omega)]; exact (e1 k hk).2, e2 k hk⟩
  refine ⟨64 + 1, vloop (fun n (z : (Nat → Nat → Int32) × GS) i => wX5_byHosts_14 x Q0 n z.1 (nI i)) (fun i z => (∀ r, r ≠ x + 149 + 1 → r ≠ x + 149 + 2 → r ≠ x + 149 + 3 → z.1 r = V r) ∧ PRel z.1 x 1 2 z.2 ∧ gsOk (nH m) (nG m) z.2 ∧ iter (gsPass (f_hr m) (f_gr m) (nH m) (nG m)) (64 - i) z.2 = gsWay (f_hr m) (f_gr m) (nH m) (nG m)) 64 ?_ ?_ 64 0 (V2, gs0) rfl ⟨f3, p0, gs0_ok, rfl⟩⟩
  · rintro n ⟨V3, s⟩ ⟨i1, i2, -, i4⟩
    show wX5_byHosts_14 x Q0 (n + 1) V3 (nI 64)
    rw [wX5_byHosts_14]
    rw [Nat.sub_self] at i4
    have i5 : s = gsWay (f_hr m) (f_gr m) (nH m) (nG m) := i4
    refine br_t (Int32.le_refl _) (hq V3 i1 ?_)
    rw [← i5]
    exact i2
  · rintro n ⟨V3, s⟩ i hi ⟨i1, i2, i3, i4⟩ hk
    show wX5_byHosts_14 x Q0 (n + 1) V3 (nI i)
    rw [wX5_byHosts_14]
    refine br_f (nI_ge hi (by decide)) ⟨nH m + 1, ?_⟩
    rw [show 64 - i = (64 - (i + 1)) + 1 by omega] at i4
    have i5 : iter (gsPass (f_hr m) (f_gr m) (nH m) (nG m)) (64 - (i + 1)) (fo (gsAsk (f_hr m) (f_gr m) (nG m)) (nH m) 0 s) = gsWay (f_hr m) (f_gr m) (nH m) (nG m) := i4
    clear i4
    refine vloop (fun n2 (z : (Nat → Nat → Int32) × GS) a => wX5_byHosts_22 x Q0 (fun V x1 => wX5_byHosts_14 x Q0 n V x1) n2 z.1 (nI i) (nI a)) (fun a z => (∀ r, r ≠ x + 149 + 1 → r ≠ x + 149 + 2 → r ≠ x + 149 + 3 → z.1 r = V r) ∧ PRel z.1 x 1 2 z.2 ∧ gsOk (nH m) (nG m) z.2 ∧ fo (gsAsk (f_hr m) (f_gr m) (nG m)) (nH m - a) a z.2 = fo (gsAsk (f_hr m) (f_gr m) (nG m)) (nH m) 0 s) (nH m) ?_ ?_ (nH m) 0 (V3, s) (Nat.zero_add _) ⟨i1, i2, i3, rfl⟩
    · rintro n2 ⟨V4, s4⟩ ⟨j1, j2, j3, j4⟩
      have w4 := w0 V4 j1
      show wX5_byHosts_22 x Q0 (fun V x1 => wX5_byHosts_14 x Q0 n V x1) (n2 + 1) V4 (nI i) (nI (nH m))
      rw [wX5_byHosts_22, w4.hosts, hA]
      rw [Nat.sub_self] at j4
      have j5 : s4 = fo (gsAsk (f_hr m) (f_gr m) (nG m)) (nH m) 0 s := j4
      rw [← j5] at i5
      exact br_t (Int32.le_refl _) (nm_r (nI_1 i) (hk (V4, s4) ⟨j1, j2, j3, i5⟩))
    · rintro n2 ⟨V4, s4⟩ a ha ⟨j1, j2, j3, j4⟩ hk2
      have w4 := w0 V4 j1
      show wX5_byHosts_22 x Q0 (fun V x1 => wX5_byHosts_14 x Q0 n V x1) (n2 + 1) V4 (nI i) (nI a)
      have jj : V4 (x + 149 + 1) a = s4.1 a := (j2 a (by omega)).1
      rw [wX5_byHosts_22, w4.hosts, hA, cl8 (show a < 8 by omega), jj]
      rw [show nH m - a = (nH m - (a + 1)) + 1 by omega] at j4
      have j5 : fo (gsAsk (f_hr m) (f_gr m) (nG m)) (nH m - (a + 1)) (a + 1) (gsAsk (f_hr m) (f_gr m) (nG m) a s4) = fo (gsAsk (f_hr m) (f_gr m) (nG m)) (nH m) 0 s := j4
      have ok2 := gsOk_ask (r1 := f_hr m) (r2 := f_gr m) (A := nH m) (B := nG m) (by omega) (by omega) ha j3
      refine br_f (nI_ge ha (by omega)) ⟨in8 (by omega), fun z => ?_, fun z => ?_⟩
      · have e : gsAsk (f_hr m) (f_gr m) (nG m) a s4 = s4 := if_neg z
        rw [e] at j5
        exact nm_r (nI_1 a) (hk2 (V4, s4) ⟨j1, j2, j3, j5⟩)
      · refine s5_hostAsks w4 hR ha j2 j3 z (fun V5 f5 p5 => nm_r (nI_1 a) (hk2 (V5, gsAsk (f_hr m) (f_gr m) (nG m) a s4) ⟨fun r r1 r2 r3 => (f5 r r1 r2 r3).trans (j1 r r1 r2 r3), p5, ok2, j5⟩))
def o_hostBest (m : Nat → Int32) (h : Int32) : Ot := if isHostP m h then .inl ((gsWay (f_hr m) (f_gr m) (nH m) (nG m)).1 h.toNatClampNeg) else .inr (xIo, 1)
theorem s1_hostBest (hW : WRel V (x + 1) m) (hR : RowOk m) (hq : ∀ V', (∀ r, r ≠ x + 149 + 1 → r ≠ x + 149 + 2 → r ≠ x + 149 + 3 → V' r = V r) → oC (o_hostBest m h) (fun r => Q2 r V') (fun e => X e V')) : wX1_hostBest x V h Q2 X := by
  refine e1_hostAt (X := fun E => X E V) hW ?_
  split
  · next c =>
    refine s5_byHosts hW hR (fun V' f p => ?_)
    have hq := hq V' f
    unfold o_hostBest at hq
    rw [if_pos c] at hq
    obtain ⟨i, hi, hi8, rfl⟩ := hR.host c
    rw [cl8 hi8] at hq ⊢
    refine ⟨in8 hi8, ?_⟩
    rw [(p i hi8).1]
    exact hq
  · next c =>
    have hq := hq V (fun _ _ _ _ => rfl)
    unfold o_hostBest at hq
    rw [if_neg c] at hq
    exact hq
theorem s5_byGuests (hW : WRel V (x + 1) m) (hR : RowOk m) (hq : ∀ V', (∀ r, r ≠ x + 149 + 1 → r ≠ x + 149 + 2 → r ≠ x + 149 + 3 → V' r = V r) → PRel V' x 2 1 (gsWay (f_gr m) (f_hr m) (nG m) (nH m)) → Q0 V') : wX5_byGuests x V Q0 := by
  have h8 := hR.H8; have g8 := hR.G8; have hA := hR.G
  have w0 : ∀ V1 : Nat → Nat → Int32, (∀ r, r ≠ x + 149 + 1 → r ≠ x + 149 + 2 → r ≠ x + 149 + 3 → V1 r = V r) → WRel V1 (x + 1) m := fun V1 f => hW.frame (fun a h1 h2 => f a (by omega) (by omega) (by omega)) h8 g8
  refine s5_clears (fun V1 f1 e1 => sJ_fill (fun V2 f2 e2 => ?_))
  have f3 : ∀ r, r ≠ x + 149 + 1 → r ≠ x + 149 + 2 → r ≠ x + 149 + 3 → V2 r = V r := fun r r1 r2 r3 => (f2 r r3).trans (f1 r r1 r2)
  have p0 : PRel V2 x 2 1 gs0 := fun k hk => ⟨by rw [f2 _ (by omega)]; exact (e1 k hk).2, by rw [f2 _ (by omega)]; exact (e1 k hk).1, e2 k hk⟩
  refine ⟨64 + 1, vloop (fun n (z : (Nat → Nat → Int32) × GS) i => wX5_byGuests_14 x Q0 n z.1 (nI i)) (fun i z => (∀ r, r ≠ x + 149 + 1 → r ≠ x + 149 + 2 → r ≠ x + 149 + 3 → z.1 r = V r) ∧ PRel z.1 x 2 1 z.2 ∧ gsOk (nG m) (nH m) z.2 ∧ iter (gsPass (f_gr m) (f_hr m) (nG m) (nH m)) (64 - i) z.2 = gsWay (f_gr m) (f_hr m) (nG m) (nH m)) 64 ?_ ?_ 64 0 (V2, gs0) rfl ⟨f3, p0, gs0_ok, rfl⟩⟩
  · rintro n ⟨V3, s⟩ ⟨i1, i2, -, i4⟩
    show wX5_byGuests_14 x Q0 (n + 1) V3 (nI 64)
    rw [wX5_byGuests_14]
    rw [Nat.sub_self] at i4
    have i5 : s = gsWay (f_gr m) (f_hr m) (nG m) (nH m) := i4
    refine br_t (Int32.le_refl _) (hq V3 i1 ?_)
    rw [← i5]
    exact i2
  · rintro n ⟨V3, s⟩ i hi ⟨i1, i2, i3, i4⟩ hk
    show wX5_byGuests_14 x Q0 (n + 1) V3 (nI i)
    rw [wX5_byGuests_14]
    refine br_f (nI_ge hi (by decide)) ⟨nG m + 1, ?_⟩
    rw [show 64 - i = (64 - (i + 1)) + 1 by omega] at i4
    have i5 : iter (gsPass (f_gr m) (f_hr m) (nG m) (nH m)) (64 - (i + 1)) (fo (gsAsk (f_gr m) (f_hr m) (nH m)) (nG m) 0 s) = gsWay (f_gr m) (f_hr m) (nG m) (nH m) := i4
    clear i4
    refine vloop (fun n2 (z : (Nat → Nat → Int32) × GS) a => wX5_byGuests_22 x Q0 (fun V x1 => wX5_byGuests_14 x Q0 n V x1) n2 z.1 (nI i) (nI a)) (fun a z => (∀ r, r ≠ x + 149 + 1 → r ≠ x + 149 + 2 → r ≠ x + 149 + 3 → z.1 r = V r) ∧ PRel z.1 x 2 1 z.2 ∧ gsOk (nG m) (nH m) z.2 ∧ fo (gsAsk (f_gr m) (f_hr m) (nH m)) (nG m - a) a z.2 = fo (gsAsk (f_gr m) (f_hr m) (nH m)) (nG m) 0 s) (nG m) ?_ ?_ (nG m) 0 (V3, s) (Nat.zero_add _) ⟨i1, i2, i3, rfl⟩
    · rintro n2 ⟨V4, s4⟩ ⟨j1, j2, j3, j4⟩
      have w4 := w0 V4 j1
      show wX5_byGuests_22 x Q0 (fun V x1 => wX5_byGuests_14 x Q0 n V x1) (n2 + 1) V4 (nI i) (nI (nG m))
      rw [wX5_byGuests_22, w4.guests, hA]
      rw [Nat.sub_self] at j4
      have j5 : s4 = fo (gsAsk (f_gr m) (f_hr m) (nH m)) (nG m) 0 s := j4
      rw [← j5] at i5
      exact br_t (Int32.le_refl _) (nm_r (nI_1 i) (hk (V4, s4) ⟨j1, j2, j3, i5⟩))
    · rintro n2 ⟨V4, s4⟩ a ha ⟨j1, j2, j3, j4⟩ hk2
      have w4 := w0 V4 j1
      show wX5_byGuests_22 x Q0 (fun V x1 => wX5_byGuests_14 x Q0 n V x1) (n2 + 1) V4 (nI i) (nI a)
      have jj : V4 (x + 149 + 2) a = s4.1 a := (j2 a (by omega)).1
      rw [wX5_byGuests_22, w4.guests, hA, cl8 (show a < 8 by omega), jj]
      rw [show nG m - a = (nG m - (a + 1)) + 1 by omega] at j4
      have j5 : fo (gsAsk (f_gr m) (f_hr m) (nH m)) (nG m - (a + 1)) (a + 1) (gsAsk (f_gr m) (f_hr m) (nH m) a s4) = fo (gsAsk (f_gr m) (f_hr m) (nH m)) (nG m) 0 s := j4
      have ok2 := gsOk_ask (r1 := f_gr m) (r2 := f_hr m) (A := nG m) (B := nH m) (by omega) (by omega) ha j3
      refine br_f (nI_ge ha (by omega)) ⟨in8 (by omega), fun z => ?_, fun z => ?_⟩
      · have e : gsAsk (f_gr m) (f_hr m) (nH m) a s4 = s4 := if_neg z
        rw [e] at j5
        exact nm_r (nI_1 a) (hk2 (V4, s4) ⟨j1, j2, j3, j5⟩)
      · refine s5_guestAsks w4 hR ha j2 j3 z (fun V5 f5 p5 => nm_r (nI_1 a) (hk2 (V5, gsAsk (f_gr m) (f_hr m) (nH m) a s4) ⟨fun r r1 r2 r3 => (f5 r r1 r2 r3).trans (j1 r r1 r2 r3), p5, ok2, j5⟩))
def o_guestBest (m : Nat → Int32) (h : Int32) : Ot := if isHostP m h then .inl ((gsWay (f_gr m) (f_hr m) (nG m) (nH m)).2.1 h.toNatClampNeg) else .inr (xIo, 1)
theorem s1_guestBest (hW : WRel V (x + 1) m) (hR : RowOk m) (hq : ∀ V', (∀ r, r ≠ x + 149 + 1 → r ≠ x + 149 + 2 → r ≠ x + 149 + 3 → V' r = V r) → oC (o_guestBest m h) (fun r => Q2 r V') (fun e => X e V')) : wX1_guestBest x V h Q2 X := by
  refine e1_hostAt (X := fun E => X E V) hW ?_
  split
  · next c =>
    refine s5_byGuests hW hR (fun V' f p => ?_)
    have hq := hq V' f
    unfold o_guestBest at hq
    rw [if_pos c] at hq
    obtain ⟨i, hi, hi8, rfl⟩ := hR.host c
    rw [cl8 hi8] at hq ⊢
    refine ⟨in8 hi8, ?_⟩
    rw [(p i hi8).2.1]
    exact hq
  · next c =>
    have hq := hq V (fun _ _ _ _ => rfl)
    unfold o_guestBest at hq
    rw [if_neg c] at hq
    exact hq
end PG4
