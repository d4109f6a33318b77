/-! ===== PURE: settle, trial, span in the component ===== -/
section SE
variable {sh : List jH} {V : Nat → Nat → Int32} {R : Nat → Nat → Option Nat} {x : Nat} {m : Nat → Int32} {law : Option (List Ln)} {Q : Int32 → (Nat → Nat → Int32) → (Nat → Nat → Option Nat) → Prop} {X : String → (Nat → Nat → Int32) → (Nat → Nat → Option Nat) → Prop}
theorem close_off {told : Bool} {met : Int32} : ∀ (k i : Nat) (m : Nat → Int32) (s0 s : Int32), fo (closeS told met) k i (m, s0 ||| s) = ((fo (closeS told met) k i (m, s)).1, s0 ||| (fo (closeS told met) k i (m, s)).2) := by
  intro k
  induction k with
  | zero => intro i m s0 s; rfl
  | succ k ih =>
    intro i m s0 s
    show fo (closeS told met) k (i + 1) (closeS told met i (m, s0 ||| s)) = ((fo (closeS told met) k (i + 1) (closeS told met i (m, s))).1, s0 ||| (fo (closeS told met) k (i + 1) (closeS told met i (m, s))).2)
    have e : closeS told met i (m, s0 ||| s) = ((closeS told met i (m, s)).1, s0 ||| (closeS told met i (m, s)).2) := by
      unfold closeS
      by_cases w : (m, s).1 (11 + 4 * i) < lonR (m, s).1 i met
      · rw [if_pos w, if_pos (show (m, s0 ||| s).1 (11 + 4 * i) < lonR (m, s0 ||| s).1 i met from w)]
        show (_, _) = (_, _)
        rw [Int32.or_assoc]
      · rw [if_neg w, if_neg (show ¬ (m, s0 ||| s).1 (11 + 4 * i) < lonR (m, s0 ||| s).1 i met from w)]
    rw [e, ih]
theorem week_st {told draws : Bool} {i j : Nat} {n st : Int32} : weekS told draws law i (m, n, st) = ((weekS told draws law j (m, n, 0)).1, (weekS told draws law j (m, n, 0)).2.1, st ||| (weekS told draws law j (m, n, 0)).2.2) := by
  have h9 : ∀ (a : (Nat → Int32) × Int32 × Int32), fo (closeS told a.2.1) (nH m) 0 (a.1, st) = ((fo (closeS told a.2.1) (nH m) 0 (a.1, 0)).1, st ||| (fo (closeS told a.2.1) (nH m) 0 (a.1, 0)).2) := fun a => by
    have := close_off (told := told) (met := a.2.1) (nH m) 0 a.1 st 0
    rw [show st ||| (0 : Int32) = st by simp] at this
    exact this
  unfold weekS
  show (_, _, _) = (_, _, _)
  simp only []
  rw [h9]
theorem isOf_or {a b k : Int32} : isOf (a ||| b) k ↔ isOf a k ∨ isOf b k := by
  unfold isOf
  have e : ∀ x : Int32, (x &&& 1 = 1) ↔ x.toBitVec.getLsbD 0 = true := by
    intro x
    rw [← Int32.toBitVec_inj]
    constructor
    · intro h
      have := congrArg (fun z => BitVec.getLsbD z 0) h
      simpa using this
    · intro h
      apply BitVec.eq_of_getLsbD_eq
      intro i hi
      by_cases h0 : i = 0
      · subst h0; simpa using h
      · have : BitVec.getLsbD (1 : Int32).toBitVec i = false := by
          show BitVec.getLsbD (1#32) i = false
          rw [BitVec.getLsbD_one]
          simp [h0]
        simp [this, h0]
  rw [e, e, e]
  simp only [Int32.toBitVec_shiftRight, Int32.toBitVec_or]
  rw [BitVec.getLsbD_eq_getElem (by decide), BitVec.getLsbD_eq_getElem (by decide), BitVec.getLsbD_eq_getElem (by decide)] <;> simp [BitVec.sshiftRight_or_distrib]
theorem isOf_0 : ∀ k : Fin 8, ¬ isOf 0 (nI k.val) := by decide +kernel
def setS (law : Option (List Ln)) (h : Nat) (i : Nat) (z : (Nat → Int32) × Int32) : (Nat → Int32) × Int32 := if z.2 = -1 then ((weekS true false law 0 (z.1, 0, 0)).1, if isOf (weekS true false law 0 (z.1, 0, 0)).2.2 (nI h) then nI i else -1) else z
theorem set_new {h i : Nat} {m : Nat → Int32} : setS law h i (m, -1) = ((weekS true false law 0 (m, 0, 0)).1, if isOf (weekS true false law 0 (m, 0, 0)).2.2 (nI h) then nI i else -1) := by
  unfold setS
  dsimp only
  rw [if_pos (show (-1 : Int32) = -1 from rfl)]
theorem set_stay {h : Nat} {z : (Nat → Int32) × Int32} (hz : z.2 ≠ -1) : ∀ (k i : Nat), fo (setS law h) k i z = z := by
  intro k
  induction k with
  | zero => intro i; rfl
  | succ k ih =>
    intro i
    show fo (setS law h) k (i + 1) (setS law h i z) = z
    rw [show setS law h i z = z from if_neg hz]
    exact ih _
def f_settle (m : Nat → Int32) (law : Option (List Ln)) (h : Nat) : Int32 := (fo (setS law h) 60 1 (m, -1)).2
def o_settle (m : Nat → Int32) (law : Option (List Ln)) (h : Int32) : Ot := if isHostP m h then .inl (f_settle m law h.toNatClampNeg) else .inr (xIo, 1)
theorem s1_settle {h : Int32} (hX : jReg shX1 sh x) (hW : WRel V (x + 1) m) (hR : RowOk m) (hL : LawSh sh (R (x + 1) 20) law) (hq : ∀ V' R', ScF x V V' → RcF x R R' → oC (o_settle m law h) (fun r => Q r V' R') (fun e => X e V' R')) : wX1_settle x sh V R h Q X := by
  unfold o_settle at hq
  refine e1_hostAt hW ?_
  by_cases c : isHostP m h
  · rw [if_pos c]
    obtain ⟨k, hk, hk8, rfl⟩ := hR.host c
    refine s1_worldAt (n := 0) hX hW hR hL (by omega) (fun V1 R1 f1 f2 W1 e1 e2 => ?_)
    rw [if_pos c, cl8 hk8] at hq
    have hq : ∀ V', ScF x V V' → Q (f_settle m law k) V' R1 := fun V' f => hq V' R1 f f2
    have W1 : WRel V1 (x + 112) m := W1
    have e1 : V1 (x + 112) 21 = 0 := e1
    have hL1 : LawSh sh (R1 (x + 112) 20) law := by rw [e2]; exact hL
    refine ⟨_, vloop (fun f (c : Nat → Nat → Int32) i => wX1_settle_13 x sh (nI k) Q X f c R1 (nI i)) (fun i c => ScF x V c ∧ ¬ isOf (c (x + 112) 21) (nI k) ∧ ∃ m1 m2, WRel c (x + 112) m1 ∧ NL m2 m1 ∧ RowOk m1 ∧ RowOk m2 ∧ (fo (setS law k) (61 - i) i (m2, -1)).2 = f_settle m law k) 61 ?_ ?_ 60 1 V1 (by omega) ⟨f1, by rw [e1]; exact isOf_0 ⟨k, hk8⟩, m, m, W1, NL.refl, hR, hR, rfl⟩⟩
    · intro f c hI
      obtain ⟨i1, i2, m1, m2, i3, i4, i5, i6, i7⟩ := hI
      rw [fo_end] at i7
      show wX1_settle_13 x sh (nI k) Q X (f + 1) c R1 (nI 61)
      rw [wX1_settle_13]
      refine br_t (by decide) ?_
      have := hq c i1
      rw [← i7] at this
      exact this
    · intro f c i hi hI hk2
      obtain ⟨i1, i2, m1, m2, i3, i4, i5, i6, i7⟩ := hI
      show wX1_settle_13 x sh (nI k) Q X (f + 1) c R1 (nI i)
      rw [wX1_settle_13]
      refine br_f (by show ¬ nI 60 < nI i; rw [nI_ltI (by omega) (by omega)]; omega) ?_
      refine s1_aWeek (told := false) (draws := false) hX i3 i5 hL1 (Or.inr (Nat.le_refl _)) (by omega) (fun V2 j1 j2 j3 => ?_)
      have hz := rn_week (draws := false) (law := law) (told := true) (told2 := false) (i := 0) (j := 0) (z := (m2, (0 : Int32), (0 : Int32))) (z2 := (m1, 0, 0)) ⟨i4, rfl, i6, i5⟩
      have s2 : ScF x V V2 := i1.trans (ScF.cw j1 (Or.inl rfl))
      rw [week_st (j := 0)] at j2 j3
      refine s1_has ?_
      rw [fo_pop hi] at i7
      rw [set_new] at i7
      generalize weekS true false law 0 (m2, 0, 0) = A at *
      generalize weekS false false law 0 (m1, 0, 0) = B at *
      have ez : B.2.2 = A.2.2 := by rw [hz.2.1]
      have hb : isOf (V2 (x + 112) 21) (nI k) ↔ isOf A.2.2 (nI k) := by
        rw [j3, isOf_or, ez]
        exact ⟨fun z => z.elim (fun q => absurd q i2) id, Or.inr⟩
      by_cases b : isOf A.2.2 (nI k)
      · rw [b2i_t (hb.2 b)]
        refine ⟨fun z => absurd z (by decide), fun _ => ?_⟩
        rw [if_pos b, set_stay (by show nI i ≠ -1; exact nI_nm1 (by omega))] at i7
        have := hq V2 s2
        rw [← i7] at this
        exact this
      · rw [b2i_f (fun z => b (hb.1 z))]
        refine ⟨fun _ => nm_r (nI_1 i) ?_, fun z => absurd rfl z⟩
        rw [if_neg b] at i7
        exact hk2 V2 ⟨s2, fun z => b (hb.1 z), _, _, j2, hz.1, hz.2.2.2, hz.2.2.1, i7⟩
  · rw [if_neg c]
    have hq := hq V R ScF.refl RcF.refl
    rw [if_neg c] at hq
    exact hq
end SE
