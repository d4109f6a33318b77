/-! ===== PURE: trial, span in the component ===== -/
section TR
variable {sh : List jH} {V : Nat → Nat → Int32} {R : Nat → Nat → Option Nat} {x : Nat} {m : Nat → Int32} {law : Option (List Ln)} {Q : Int32 → (Nat → Nat → Int32) → (Nat → Nat → Option Nat) → Prop} {X : String → (Nat → Nat → Int32) → (Nat → Nat → Option Nat) → Prop}
theorem s1_tries {n : Nat} {P : (Nat → Nat → Int32) → Prop} (hX : jReg shX1 sh x) (hW : WRel V (x + 160) m) (hR : RowOk m) (hL : LawSh sh (R (x + 160) 20) law) (hn : n ≤ 60) (h21 : V (x + 160) 21 = 0) (hq : ∀ V', CwF x (x + 160) V V' → WRel V' (x + 160) (weeksR false true law n m).1 → V' (x + 160) 21 = (weeksR false true law n m).2.2 → P V') : wX1_tries x sh R V (nI n) P := by
  refine s1_manyWeeks (draws := true) (W := fun f V' i => wX1_tries_2 x sh R (nI n) P f V' (nI i)) (P := P) hX hW hR hL (Or.inr rfl) hn h21 ?_ ?_ hq
  · intro f V' hP
    rw [wX1_tries_2]
    exact br_t (Int32.le_refl _) hP
  · intro f V' i hi hk
    rw [wX1_tries_2]
    refine br_f (nI_ge hi (by omega)) ?_
    have e : (fun r14 V14 => ∀ y18 : Int32, y18 = nI i + (1 : Int32) → wX1_tries_2 x sh R (nI n) P f V14 y18) = (fun (_ : Int32) V26 => wX1_tries_2 x sh R (nI n) P f V26 (nI (i + 1))) := by
      funext r V26
      exact propext ⟨fun h => h _ (nI_1 i).symm, fun h => nm_r (nI_1 i) h⟩
    rw [e]
    exact hk
def o_trial (m : Nat → Int32) (law : Option (List Ln)) (a w : Int32) : Ot := if inI a 0 60 then .inl (if w = 0 then f_gladness (weeksR true true law a.toNatClampNeg m).1 else (weeksR true true law a.toNatClampNeg m).2.2) else .inr (xIa, 1)
def spanS (m : Nat → Int32) (law : Option (List Ln)) (n : Nat) (w : Int32) (i : Nat) (a : Int32) : Int32 :=
  if a = -1 then f_gladness (weeksR true true law n (upd m 10 (nI i))).1 else if w = 0 then (if f_gladness (weeksR true true law n (upd m 10 (nI i))).1 < a then f_gladness (weeksR true true law n (upd m 10 (nI i))).1 else a) else (if a < f_gladness (weeksR true true law n (upd m 10 (nI i))).1 then f_gladness (weeksR true true law n (upd m 10 (nI i))).1 else a)
def f_span (m : Nat → Int32) (law : Option (List Ln)) (n : Nat) (w : Int32) : Int32 := fo (spanS m law n w) 6 1 (-1)
def o_span (m : Nat → Int32) (law : Option (List Ln)) (a w : Int32) : Ot := if inI a 0 60 then .inl (f_span m law a.toNatClampNeg w) else .inr (xIa, 1)
theorem s1_trial {a w : Int32} (hX : jReg shX1 sh x) (hW : WRel V (x + 1) m) (hR : RowOk m) (hL : LawSh sh (R (x + 1) 20) law) (hq : ∀ V' R', ScF x V V' → RcF x R R' → oC (o_trial m law a w) (fun r => Q r V' R') (fun e => X e V' R')) : wX1_trial x sh V R a w Q X := by
  unfold o_trial at hq
  refine s1_in ?_
  by_cases c : inI a 0 60
  · rw [b2i_t c]
    refine e1_demand ?_
    rw [if_neg (by decide)]
    obtain ⟨n, hn, rfl, e⟩ := in60 c
    refine s2_likens hW hR.H8 hR.G8 (Or.inr (by omega)) (fun V1 f1 W1 e1 => ?_)
    have s1 : ScF x V V1 := ⟨fun b hb => f1 b (by omega), fun j _ => by rw [f1 x (by omega)]⟩
    have r1 : RcF x R (rset R (x + 160) 20 (R (x + 1) 20)) := RcF.set (Or.inr (Or.inr rfl))
    refine s1_tries (m := m) hX W1 hR (by rw [rset_at]; exact hL) hn e1 (fun V2 c2 W2 e2 => ?_)
    have hq := hq V2 _ (s1.trans (ScF.cw c2 (Or.inr rfl))) r1
    rw [if_pos c, e] at hq
    have hz := rn_weeks (told := false) (draws := true) (told2 := true) (law := law) (n := n) hR
    refine ⟨fun z => s2_gladness W2 hz.2.2.1 ?_, fun z => ?_⟩
    · rw [if_pos z, nl_glad hz.1 hz.2.2.1.H8] at hq
      exact hq
    · rw [if_neg z, hz.2.1] at hq
      rw [e2]
      exact hq
  · rw [b2i_f c]
    refine e1_demand ?_
    rw [if_pos rfl]
    have hq := hq V R ScF.refl RcF.refl
    rw [if_neg c] at hq
    exact hq
theorem RowOk.seed {s : Int32} (hR : RowOk m) : RowOk (upd m 10 s) :=
  hR.same (fun j hj => upd_n (by omega)) (fun h q hh hq => Or.inr (upd_n (by omega))) (by rw [upd_n (by decide)]; exact hR.2.2.2.2.2.2.2.2.2.2.2.1)
theorem s1_span {a w : Int32} (hX : jReg shX1 sh x) (hW : WRel V (x + 1) m) (hR : RowOk m) (hL : LawSh sh (R (x + 1) 20) law) (hq : ∀ V' R', ScF x V V' → RcF x R R' → oC (o_span m law a w) (fun r => Q r V' R') (fun e => X e V' R')) : wX1_span x sh V R a w Q X := by
  unfold o_span at hq
  refine s1_in ?_
  by_cases c : inI a 0 60
  · rw [b2i_t c]
    refine e1_demand ?_
    rw [if_neg (by decide)]
    obtain ⟨n, hn, rfl, e⟩ := in60 c
    rw [if_pos c, e] at hq
    refine ⟨_, vloop (fun f (c : (Nat → Nat → Int32) × (Nat → Nat → Option Nat) × Int32) i => wX1_span_15 x sh (nI n) w Q X f c.1 c.2.1 c.2.2 (nI i)) (fun i c => ScF x V c.1 ∧ RcF x R c.2.1 ∧ fo (spanS m law n w) (7 - i) i c.2.2 = f_span m law n w) 7 ?_ ?_ 6 1 (V, R, (-1 : Int32)) (by omega) ⟨ScF.refl, RcF.refl, rfl⟩⟩
    · intro f c hI
      obtain ⟨i1, i2, i3⟩ := hI
      rw [fo_end] at i3
      show wX1_span_15 x sh (nI n) w Q X (f + 1) c.1 c.2.1 c.2.2 (nI 7)
      rw [wX1_span_15]
      refine br_t (by decide) ?_
      have := hq c.1 c.2.1 i1 i2
      rw [← i3] at this
      exact this
    · intro f c i hi hI hk2
      obtain ⟨V0, R0, a0⟩ := c
      obtain ⟨i1, i2, i3⟩ := hI
      show wX1_span_15 x sh (nI n) w Q X (f + 1) V0 R0 a0 (nI i)
      rw [wX1_span_15]
      refine br_f (by show ¬ nI 6 < nI i; rw [nI_ltI (by omega) (by omega)]; omega) ?_
      have W0 : WRel V0 (x + 1) m := hW.frame (fun b h1 h2 => i1.1 b (by omega)) hR.H8 hR.G8
      have r20 : R0 (x + 1) 20 = R (x + 1) 20 := i2 _ _ (by omega)
      refine s2_likens W0 hR.H8 hR.G8 (Or.inr (by omega)) (fun V1 f1 W1 e1 => ?_)
      have s1 : ScF x V0 (vset V1 (x + 160) 8 (nI i)) := ⟨fun b hb => by rw [vset_n _ _ _ (by omega)]; exact f1 b (by omega), fun j _ => by rw [vset_n _ _ _ (by omega), f1 x (by omega)]⟩
      have r1 : RcF x R0 (rset R0 (x + 160) 20 (R0 (x + 1) 20)) := RcF.set (Or.inr (Or.inr rfl))
      have W2 : WRel (vset V1 (x + 160) 8 (nI i)) (x + 160) (upd m 10 (nI i)) := W1.put (b0 := 0) ⟨by decide, by decide⟩ (fun b j k z => by
        rcases WM_cases z hR.H8 hR.G8 with z | z | z | z | z <;> omega)
      have hR2 : RowOk (upd m 10 (nI i)) := hR.seed
      refine s1_tries (m := upd m 10 (nI i)) hX W2 hR2 (by rw [rset_at, r20]; exact hL) hn (by rw [vset_at, if_neg (by decide)]; exact e1) (fun V3 c2 W3 e2 => ?_)
      have hz := rn_weeks (told := false) (draws := true) (told2 := true) (law := law) (n := n) hR2
      refine s2_gladness W3 hz.2.2.1 ?_
      rw [fo_pop hi] at i3
      have hs : spanS m law n w i a0 = spanS m law n w i a0 := rfl
      conv at hs => rhs; unfold spanS
      rw [nl_glad hz.1 hz.2.2.1.H8] at hs
      generalize f_gladness (weeksR false true law n (upd m 10 (nI i))).1 = gl at *
      have k2 : ∀ b, b = spanS m law n w i a0 → wX1_span_15 x sh (nI n) w Q X f V3 (rset R0 (x + 160) 20 (R0 (x + 1) 20)) b (nI i + 1) := fun b hb => by
        rw [nI_1]
        exact hk2 (V3, rset R0 (x + 160) 20 (R0 (x + 1) 20), b) ⟨(i1.trans s1).trans (ScF.cw c2 (Or.inr rfl)), i2.trans r1, by rw [hb]; exact i3⟩
      refine ⟨fun z => ?_, fun z => ?_⟩
      · rw [if_neg z] at hs
        refine ⟨fun z2 => ?_, fun z2 => ?_⟩
        · rw [if_pos z2] at hs
          intro y hy y2 hy2
          rw [hy2]
          exact k2 y (by rw [hs, hy])
        · rw [if_neg z2] at hs
          intro y hy y2 hy2
          rw [hy2]
          exact k2 y (by rw [hs, hy])
      · rw [if_pos z] at hs
        intro y2 hy2
        rw [hy2]
        exact k2 gl hs.symm
  · rw [b2i_f c]
    refine e1_demand ?_
    rw [if_pos rfl]
    have hq := hq V R ScF.refl RcF.refl
    rw [if_neg c] at hq
    exact hq
end TR
