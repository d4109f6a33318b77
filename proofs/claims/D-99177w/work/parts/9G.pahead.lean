/-! ===== PURE: weeks ahead, in the component ===== -/
/-- what a question of the component leaves as it was -/
def ScF (x : Nat) (V V' : Nat → Nat → Int32) : Prop := (∀ b, (b < x ∨ (x + 1 ≤ b ∧ b ≤ x + 36) ∨ (x + 73 ≤ b ∧ b ≤ x + 110) ∨ b = x + 148 ∨ x + 196 ≤ b) → V' b = V b) ∧ ∀ j, j ≠ 6 → V' x j = V x j
def RcF (x : Nat) (R R' : Nat → Nat → Option Nat) : Prop := ∀ b j, ¬ (j = 20 ∧ (b = x + 37 ∨ b = x + 112 ∨ b = x + 160)) → R' b j = R b j
theorem ScF.refl {x : Nat} {V : Nat → Nat → Int32} : ScF x V V := ⟨fun _ _ => rfl, fun _ _ => rfl⟩
theorem ScF.trans {x : Nat} {V V1 V2 : Nat → Nat → Int32} (h : ScF x V V1) (h2 : ScF x V1 V2) : ScF x V V2 := ⟨fun b hb => (h2.1 b hb).trans (h.1 b hb), fun j hj => (h2.2 j hj).trans (h.2 j hj)⟩
theorem RcF.refl {x : Nat} {R : Nat → Nat → Option Nat} : RcF x R R := fun _ _ _ => rfl
theorem RcF.trans {x : Nat} {R R1 R2 : Nat → Nat → Option Nat} (h : RcF x R R1) (h2 : RcF x R1 R2) : RcF x R R2 := fun b j hj => (h2 b j hj).trans (h b j hj)
theorem ScF.cf {x : Nat} {V V' : Nat → Nat → Int32} (h : CF x V V') : ScF x V V' := ⟨fun b hb => h b (by omega), fun j _ => by rw [h x (by omega)]⟩
theorem ScF.cw {x w : Nat} {V V' : Nat → Nat → Int32} (h : CwF x w V V') (hw : w = x + 112 ∨ w = x + 160) : ScF x V V' := ⟨fun b hb => by
  by_cases z : b = x
  · omega
  · exact h.1 b z (by omega) (by omega), fun j hj => h.2 j hj⟩
theorem RcF.set {x : Nat} {R : Nat → Nat → Option Nat} {w : Nat} {o : Option Nat} (hw : w = x + 37 ∨ w = x + 112 ∨ w = x + 160) : RcF x R (rset R w 20 o) := fun b j hj => by
  by_cases z : b = w
  · rw [z, rset_s]
    exact if_neg (fun q => hj ⟨q, by omega⟩)
  · rw [rset_n _ _ _ z]
theorem rset_at {R : Nat → Nat → Option Nat} {w j : Nat} {o : Option Nat} : rset R w j o w j = o := by rw [rset_s]; exact if_pos rfl
section AH
variable {sh : List jH} {V : Nat → Nat → Int32} {R : Nat → Nat → Option Nat} {x : Nat} {m : Nat → Int32} {law : Option (List Ln)} {Q : Int32 → (Nat → Nat → Int32) → (Nat → Nat → Option Nat) → Prop} {X : String → (Nat → Nat → Int32) → (Nat → Nat → Option Nat) → Prop}
theorem weeks_s {told draws : Bool} {n : Nat} : fo (weekS told draws law) n 0 (m, 0, 0) = weeksR told draws law n m := rfl
/-- weeks of a world that is a copy -/
theorem s1_manyWeeks {w n : Nat} {draws : Bool} {W : Nat → (Nat → Nat → Int32) → Nat → Prop} {P : (Nat → Nat → Int32) → Prop} (hX : jReg shX1 sh x) (hW : WRel V w m) (hR : RowOk m) (hL : LawSh sh (R w 20) law) (hw : w = x + 112 ∨ w = x + 160) (hn : n ≤ 60) (h21 : V w 21 = 0)
    (hx : ∀ f V', P V' → W (f + 1) V' n) (hs : ∀ f V' i, i < n → wX1_aWeek x w sh R V' (b2i (draws = true)) 0 (fun _ V26 => W f V26 (i + 1)) → W (f + 1) V' i)
    (hq : ∀ V', CwF x w V V' → WRel V' w (weeksR false draws law n m).1 → V' w 21 = (weeksR false draws law n m).2.2 → P V') : ∃ f9, W f9 V 0 := by
  have hd : w + 36 ≤ x + 111 ∨ x + 112 ≤ w := by omega
  refine ⟨_, vloop (fun f (c : Nat → Nat → Int32) i => W f c i) (fun i c => CwF x w V c ∧ ∃ m1 s1, WRel c w m1 ∧ WkS m m1 ∧ fo (weekS false draws law) (n - i) i (m1, s1, c w 21) = weeksR false draws law n m) n ?_ ?_ n 0 V (Nat.zero_add _) ⟨CwF.refl, m, 0, hW, WkS.refl, by rw [h21]; rfl⟩⟩
  · intro f c hI
    obtain ⟨i1, m1, s1, i2, i3, i4⟩ := hI
    rw [fo_end] at i4
    exact hx f c (hq c i1 (by rw [← i4]; exact i2) (by rw [← i4]))
  · intro f c i hi hI hk
    obtain ⟨i1, m1, s1, i2, i3, i4⟩ := hI
    rw [fo_pop hi] at i4
    have hR1 := i3.row hR
    refine hs f c i hi (s1_aWeek (told := false) hX i2 hR1 hL hd (by omega) (fun V2 j1 j2 j3 => hk V2 ⟨i1.trans j1, _, s1 + (weekS false draws law 0 (m1, 0, c w 21)).2.1, j2, i3.trans (wk_week hR1.H8), ?_⟩))
    rw [j3, ← i4]
    have := week_off (told := false) (draws := draws) (law := law) (m := m1) (i := i) (j := 0) (n0 := s1) (n := 0) (st := c w 21)
    rw [show s1 + (0 : Int32) = s1 by simp] at this
    rw [this]
theorem s1_worldAt {n : Nat} {P : (Nat → Nat → Int32) → (Nat → Nat → Option Nat) → Prop} (hX : jReg shX1 sh x) (hW : WRel V (x + 1) m) (hR : RowOk m) (hL : LawSh sh (R (x + 1) 20) law) (hn : n ≤ 60) (hq : ∀ V' R', ScF x V V' → RcF x R R' → WRel V' (x + 112) (weeksR false false law n m).1 → V' (x + 112) 21 = (weeksR false false law n m).2.2 → R' (x + 112) 20 = R (x + 1) 20 → P V' R') : wX1_worldAt x sh V R (nI n) P := by
  refine s2_likens hW hR.H8 hR.G8 (Or.inr (by omega)) (fun V1 f1 W1 e1 => ?_)
  have s1 : ScF x V V1 := ⟨fun b hb => f1 b (by omega), fun j _ => by rw [f1 x (by omega)]⟩
  have r1 : RcF x R (rset R (x + 112) 20 (R (x + 1) 20)) := RcF.set (Or.inr (Or.inl rfl))
  refine s1_manyWeeks (R := rset R (x + 112) 20 (R (x + 1) 20)) (draws := false) (W := fun f V' i => wX1_worldAt_14 x sh (nI n) P f V' (rset R (x + 112) 20 (R (x + 1) 20)) (nI i)) (P := fun V' => P V' (rset R (x + 112) 20 (R (x + 1) 20))) hX W1 hR (by rw [rset_at]; exact hL) (Or.inl rfl) hn e1 ?_ ?_ (fun V2 c2 W2 e2 => hq V2 _ (s1.trans (ScF.cw c2 (Or.inl rfl))) r1 W2 e2 rset_at)
  · intro f V' hP
    rw [wX1_worldAt_14]
    exact br_t (Int32.le_refl _) hP
  · intro f V' i hi hk
    rw [wX1_worldAt_14]
    refine br_f (nI_ge hi (by omega)) ?_
    have e : (fun r26 V26 => ∀ y30 : Int32, y30 = nI i + (1 : Int32) → wX1_worldAt_14 x sh (nI n) P f V26 (rset R (x + 112) 20 (R (x + 1) 20)) y30) = (fun (_ : Int32) V26 => wX1_worldAt_14 x sh (nI n) P f V26 (rset R (x + 112) 20 (R (x + 1) 20)) (nI (i + 1))) := by
      funext r V26
      exact propext ⟨fun h => h _ (nI_1 i).symm, fun h => nm_r (nI_1 i) h⟩
    rw [e]
    exact hk
def o_gladder (m : Nat → Int32) (law : Option (List Ln)) (a : Int32) : Ot := if inI a 0 60 then .inl (f_gladness (weeksR true false law a.toNatClampNeg m).1 - f_gladness m) else .inr (xIa, 1)
def o_ahead (m : Nat → Int32) (law : Option (List Ln)) (h a w : Int32) : Ot := if isHostP m h then (if inI a 0 60 then (if inI w 0 1 then .inl ((weeksR true false law a.toNatClampNeg m).1 (13 + 4 * h.toNatClampNeg + w.toNatClampNeg)) else .inr (xNs, 3)) else .inr (xIa, 2)) else .inr (xIo, 1)
theorem e1_aheadBy {a : Int32} {P : Prop} {X : String → Prop} (hq : if inI a 0 60 then P else X xIa) : wX1_aheadBy a P (fun _ => False) ∨ wX1_aheadBy a False X := by
  by_cases c : inI a 0 60
  · rw [if_pos c] at hq
    refine Or.inl (s1_in ?_)
    rw [b2i_t c]
    exact Or.inl ⟨fun _ => hq, fun z => absurd z (by decide)⟩
  · rw [if_neg c] at hq
    refine Or.inr (s1_in ?_)
    rw [b2i_f c]
    exact Or.inr ⟨fun z => absurd rfl z, fun _ => hq⟩
theorem in60 {a : Int32} (h : inI a 0 60) : ∃ n, n ≤ 60 ∧ a = nI n ∧ a.toNatClampNeg = n := by
  obtain ⟨n, hn, rfl⟩ := (inI_lit (n := 60) (by decide)).1 h
  exact ⟨n, hn, rfl, nI_clamp (by omega)⟩
theorem s1_gladder {a : Int32} (hX : jReg shX1 sh x) (hW : WRel V (x + 1) m) (hR : RowOk m) (hL : LawSh sh (R (x + 1) 20) law) (hq : ∀ V' R', ScF x V V' → RcF x R R' → oC (o_gladder m law a) (fun r => Q r V' R') (fun e => X e V' R')) : wX1_gladder x sh V R a Q X := by
  unfold o_gladder at hq
  refine e1_aheadBy ?_
  by_cases c : inI a 0 60
  · rw [if_pos c]
    obtain ⟨n, hn, rfl, e⟩ := in60 c
    refine s1_worldAt hX hW hR hL hn (fun V' R' f1 f2 W1 _ _ => ?_)
    have hq := hq V' R' f1 f2
    rw [if_pos c, e] at hq
    have hz := rn_weeks (told := false) (draws := false) (told2 := true) (law := law) (n := n) hR
    have hW' : WRel V' (x + 1) m := hW.frame (fun b h1 h2 => f1.1 b (by omega)) hR.H8 hR.G8
    refine s2_gladness W1 hz.2.2.1 (s2_gladness hW' hR ?_)
    rw [nl_glad hz.1 hz.2.2.1.H8] at hq
    exact hq
  · rw [if_neg c]
    have hq := hq V R ScF.refl RcF.refl
    rw [if_neg c] at hq
    exact hq
theorem s1_ahead {h a w : Int32} (hX : jReg shX1 sh x) (hW : WRel V (x + 1) m) (hR : RowOk m) (hL : LawSh sh (R (x + 1) 20) law) (hq : ∀ V' R', ScF x V V' → RcF x R R' → oC (o_ahead m law h a w) (fun r => Q r V' R') (fun e => X e V' R')) : wX1_ahead x sh V R h a w Q X := by
  unfold o_ahead at hq
  refine e1_hostAt hW ?_
  by_cases c : isHostP m h
  · rw [if_pos c]
    obtain ⟨k, hk, hk8, rfl⟩ := hR.host c
    refine e1_aheadBy ?_
    by_cases d : inI a 0 60
    · rw [if_pos d]
      obtain ⟨n, hn, rfl, e⟩ := in60 d
      refine e1_question ?_
      by_cases e2 : inI w 0 1
      · rw [if_pos e2]
        refine s1_worldAt hX hW hR hL hn (fun V' R' f1 f2 W1 _ _ => ?_)
        have hq := hq V' R' f1 f2
        rw [if_pos c, if_pos d, if_pos e2, e, nI_clamp (by omega)] at hq
        have hz := rn_weeks (told := false) (draws := false) (told2 := true) (law := law) (n := n) hR
        obtain ⟨i, hi, rfl⟩ := (inI_lit (n := 1) (by decide)).1 e2
        rw [hz.1 _ (by omega) (by rw [nI_clamp (by omega)]; omega)] at hq
        have h9 : nH (weeksR false false law n m).1 = nH m := (Same.nH (wk_weeks (told := false) (draws := false) (law := law) n 0 (m, 0, 0) hR.H8).1)
        rw [nI_clamp (by omega)] at hq
        obtain rfl | rfl : i = 0 ∨ i = 1 := by omega
        · refine ⟨fun z => absurd rfl z, fun _ => ⟨in8 hk8, ?_⟩⟩
          rw [cl8 hk8, (W1.2.1 k (by omega)).2.2.1]
          exact hq
        · refine ⟨fun _ => ⟨in8 hk8, ?_⟩, fun z => absurd z (by decide)⟩
          rw [cl8 hk8, (W1.2.1 k (by omega)).2.2.2, show 14 + 4 * k = 13 + 4 * k + 1 by omega]
          exact hq
      · rw [if_neg e2]
        have hq := hq V R ScF.refl RcF.refl
        rw [if_pos c, if_pos d, if_neg e2] at hq
        exact hq
    · rw [if_neg d]
      have hq := hq V R ScF.refl RcF.refl
      rw [if_pos c, if_neg d] at hq
      exact hq
  · rw [if_neg c]
    have hq := hq V R ScF.refl RcF.refl
    rw [if_neg c] at hq
    exact hq
end AH
