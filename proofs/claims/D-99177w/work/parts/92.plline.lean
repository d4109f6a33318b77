/-! ===== PURE: lines of the law, the law itself, as cells ===== -/
def LineF (q : Nat) (ln : Ln) (g : List jC) : Prop := ∃ o : Option Nat, g[q]? = some (.inr (8, [.ref (59 + ln.1), .int (nI ln.2.1), va_rf o])) ∧ jn ≤ q ∧ ln.1 < 3 ∧ ∀ s F, SceneAt g s F → ∀ Q : Int32 → Prop, Q (b2i (ln.2.2 F = true)) → wX10_holds g q s Q
def joyE (F : Nat → Int32) (ls : List Ln) : Int32 := if 0 < F 4 + (lsE F ls (0, 0, 0)).1 then F 4 + (lsE F ls (0, 0, 0)).1 else 0
def letE (F : Nat → Int32) (ls : List Ln) : Bool := if (lsE F ls (0, 0, 0)).2.1 = 0 then decide (¬ F 7 = 0) else decide (¬ (lsE F ls (0, 0, 0)).2.2 = 0)
def LawF (k : Nat) (ls : List Ln) (g : List jC) : Prop := jn ≤ k ∧ ∃ h : Nat, g[k]? = some (.inr (7, [.ref h])) ∧ (∃ fs : List Value, g[h]? = some (.inr (15, fs))) ∧ (∀ Q : Int32 → Prop, Q (nI ls.length) → wJ2_size g h Q) ∧ ∀ s F, SceneAt g s F → (∀ Q : Int32 → Prop, Q (joyE F ls) → wX8_joy g k s Q) ∧ (∀ Q : Int32 → Prop, Q (b2i (letE F ls = true)) → wX8_admits g k s Q)
theorem lnE_add {F : Nat → Int32} {ln : Ln} {u v : Int32} {p : Int32 × Int32} : (lnE F ln (u + v, p)).1 = u + (lnE F ln (v, p)).1 := by
  unfold lnE
  show (if ln.2.2 F = true then (if ln.1 = 0 then u + v + nI ln.2.1 else if ln.1 = 1 then u + v + - nI ln.2.1 else u + v) else u + v) = u + (if ln.2.2 F = true then (if ln.1 = 0 then v + nI ln.2.1 else if ln.1 = 1 then v + - nI ln.2.1 else v) else v)
  split
  · split
    · exact Int32.add_assoc _ _ _
    · split
      · exact Int32.add_assoc _ _ _
      · rfl
  · rfl
theorem lnE_snd {F : Nat → Int32} {ln : Ln} {u v : Int32} {p : Int32 × Int32} : (lnE F ln (u, p)).2 = (lnE F ln (v, p)).2 := rfl
theorem lsE_add {F : Nat → Int32} : ∀ {ls : List Ln} {u v : Int32} {p : Int32 × Int32}, (lsE F ls (u + v, p)).1 = u + (lsE F ls (v, p)).1 := by
  intro ls
  induction ls with
  | nil => intro u v p; rfl
  | cons ln ls ih =>
    intro u v p
    show (lsE F ls (lnE F ln (u + v, p))).1 = u + (lsE F ls (lnE F ln (v, p))).1
    have h1 : lnE F ln (u + v, p) = (u + (lnE F ln (v, p)).1, (lnE F ln (v, p)).2) := Prod.ext lnE_add lnE_snd
    rw [h1, ih]
theorem lsE_snd {F : Nat → Int32} : ∀ {ls : List Ln} {u v : Int32} {p : Int32 × Int32}, (lsE F ls (u, p)).2 = (lsE F ls (v, p)).2 := by
  intro ls
  induction ls with
  | nil => intro u v p; rfl
  | cons ln ls ih =>
    intro u v p
    show (lsE F ls (lnE F ln (u, p))).2 = (lsE F ls (lnE F ln (v, p))).2
    have h1 : lnE F ln (u, p) = ((lnE F ln (u, p)).1, (lnE F ln (v, p)).2) := Prod.ext rfl lnE_snd
    rw [h1, ih (v := (lnE F ln (v, p)).1)]
theorem lsE_ad1 {F : Nat → Int32} : ∀ {ls : List Ln} {z : Int32 × Int32 × Int32}, z.2.2 = 1 → (lsE F ls z).2.2 = 1 := by
  intro ls
  induction ls with
  | nil => intro z h; exact h
  | cons ln ls ih =>
    intro z h
    refine ih (z := lnE F ln z) ?_
    show (if _ then _ else _) = _
    split
    · rfl
    · exact h
theorem lsE_ha1 {F : Nat → Int32} : ∀ {ls : List Ln} {z : Int32 × Int32 × Int32}, z.2.1 = 1 → (lsE F ls z).2.1 = 1 := by
  intro ls
  induction ls with
  | nil => intro z h; exact h
  | cons ln ls ih =>
    intro z h
    refine ih (z := lnE F ln z) ?_
    show (if _ then _ else _) = _
    split
    · rfl
    · exact h
section LA
variable {sh s : List jH} {V : Nat → Nat → Int32} {R : Nat → Nat → Option Nat} {x a b d L c n h k q : Nat} {T : Nat → Nat} {ids : List Nat} {S : Nat → Prop}
theorem den_line {ln : Ln} {o : Option Nat} {D : Nat} (hj : jn ≤ sh.length) (hq : sh.length ≤ q) (hk3 : ln.1 < 3) (h0 : s[q]? = some (jF (.inr (8, [.ref (59 + ln.1), .int (nI ln.2.1), va_rf o])))) (hS : ∀ j, S j → sh.length ≤ j) (hD : D ≤ 30) (ho : (o = none ∧ ∀ F, ln.2.2 F = true) ∨ ∃ k, o = some k ∧ Den s S (CondF k D ln.2.2)) : Den s (fun j => sh.length ≤ j) (LineF q ln) := by
  intro sh' hkp hC V R
  have e0 := hkp _ _ hq h0
  have hqj : jn ≤ q := by omega
  refine ⟨o, mk_atF e0, hqj, hk3, fun s9 F hF Q hQ => ⟨_, mk_atF e0, hqj, o, rfl, fun z => ?_, fun b hb => ?_⟩⟩
  · rcases ho with ⟨-, w⟩ | ⟨k, w, -⟩
    · rw [b2i_t (w F)] at hQ; exact hQ
    · rw [z] at w; cases w
  · rcases ho with ⟨w, -⟩ | ⟨k, w, hd⟩
    · rw [hb] at w; cases w
    · rw [hb] at w
      cases w
      refine ⟨_, mk_atF e0, hqj, o, rfl, b, hb, 30, by decide, (hd sh' (fun j t hj ht => hkp j t (hS j hj) ht) hC V R).2 s9 F hF 30 hD _ ⟨fun z => ?_, fun z => ?_⟩⟩
      · rw [z] at hQ; exact hQ
      · rw [b2i_t (Classical.byContradiction fun w => z (b2i_f w))] at hQ; exact hQ
theorem den_law {ls : List Ln} (hj : jn ≤ sh.length) (hk : sh.length ≤ k) (hb : sh.length ≤ h) {r : Nat} (hr : r = 64 ∨ sh.length ≤ r) (h0 : s[k]? = some (jF (.inr (7, [.ref h])))) (hL : ListS s h r ids) (hlen : ids.length = ls.length) (hl4 : ids.length ≤ 401) (hS : ∀ j, S j → sh.length ≤ j) (hD : ∀ i, i < ids.length → Den s S (LineF (ids.getD i 0) (ls.getD i (0, 0, fun _ => false)))) : Den s (fun j => sh.length ≤ j) (LawF k ls) := by
  intro sh' hkp hC V R
  have e0 := hkp _ _ hk h0
  have hkj : jn ≤ k := by omega
  obtain ⟨hhj, ⟨v, l1⟩, l2⟩ := hL
  have e1 := hkp _ _ hb l1
  have get : ∀ (i : Nat) (P : Option Nat → Prop), i < ids.length → P (some (ids.getD i 0)) → wJ2_get (mk sh' V R) h (nI i) P := by
    intro i P hi hP
    refine ⟨_, mk_atF e1, hhj, nI ids.length, rfl, br_f (nI_pos (by omega)) (br_t (nI_lt hi (by omega)) ⟨_, mk_atF e1, _, mk_atF e1, hhj, some r, rfl, r, rfl, ?_⟩)⟩
    rcases l2 with ⟨-, z⟩ | ⟨z1, z2, N, f, g1, g2, g3, g4, g5, g6⟩
    · rw [z] at hi; exact absurd hi (by simp)
    · refine ⟨N, f, mk_atF (hkp _ _ (hr.resolve_left (fun w => by have h70 : jn = 70 := rfl; omega)) g1), z1, vp_in_nI (by omega) (by omega), ?_⟩
      rw [nI_clamp (by omega), g5 i hi]
      exact nm_e hP
  have size : ∀ Q : Int32 → Prop, Q (nI ids.length) → wJ2_size (mk sh' V R) h Q := fun Q hQ => ⟨_, mk_atF e1, hhj, nI ids.length, rfl, hQ⟩
  have hdr : ∀ i, i < ids.length → ls.drop i = ls.getD i (0, 0, fun _ => false) :: ls.drop (i + 1) := fun i hi => by
    rw [List.drop_eq_getElem_cons (by omega : i < ls.length), List.getD_eq_getElem?_getD, List.getElem?_eq_getElem (by omega : i < ls.length)]
    rfl
  refine ⟨hkj, h, mk_atF e0, ⟨_, mk_atF e1⟩, fun Q hQ => size Q (by rw [hlen]; exact hQ), fun s9 F hF => ⟨fun Q hQ => ?_, fun Q hQ => ?_⟩⟩
  · -- joy
    have hF2 := hF
    obtain ⟨fs, g1, g2, g3, -⟩ := hF
    refine ⟨fs, g1, g2, F 4, g3 4 (by decide), ?_⟩
    have hQ2 : Q (if 0 < (lsE F (ls.drop 0) (F 4, (0, 0))).1 then (lsE F (ls.drop 0) (F 4, (0, 0))).1 else 0) := by
      have e : (lsE F ls (F 4, (0, 0))).1 = F 4 + (lsE F ls (0, (0, 0))).1 := by
        have := lsE_add (F := F) (ls := ls) (u := F 4) (v := 0) (p := (0, 0))
        rw [show F 4 + (0 : Int32) = F 4 by simp] at this
        exact this
      rw [List.drop_zero, e]
      exact hQ
    suffices H : ∀ u i acc, i + u = ids.length → Q (if 0 < (lsE F (ls.drop i) (acc, (0, 0))).1 then (lsE F (ls.drop i) (acc, (0, 0))).1 else 0) → wX8_joy_7 (mk sh' V R) k s9 Q (u + 1) acc (nI i) from ⟨_, H _ 0 _ (Nat.zero_add _) hQ2⟩
    intro u
    induction u with
    | zero =>
      intro i acc hi hq
      rw [List.drop_eq_nil_of_le (by omega)] at hq
      exact ⟨_, mk_atF e0, hkj, some h, rfl, h, rfl, _, mk_atF e1, size _ (br_t (by rw [show i = ids.length by omega]; exact Int32.le_refl _) hq)⟩
    | succ u ih =>
      intro i acc hi hq
      refine ⟨_, mk_atF e0, hkj, some h, rfl, h, rfl, _, mk_atF e1, size _ (br_f (nI_ge (by omega) (by omega)) ⟨_, mk_atF e0, hkj, some h, rfl, h, rfl, _, mk_atF e1, get i _ (by omega) ⟨_, rfl, ?_⟩⟩)⟩
      obtain ⟨o, d1, d2, d3, d4⟩ := hD i (by omega) sh' (fun j t hj ht => hkp j t (hS j hj) ht) hC V R
      rw [hdr i (by omega)] at hq
      generalize ls.getD i (0, 0, fun _ => false) = ln at d1 d3 d4 hq
      have hq1 : Q (if 0 < (lsE F (ls.drop (i + 1)) (lnE F ln (acc, (0, 0)))).1 then (lsE F (ls.drop (i + 1)) (lnE F ln (acc, (0, 0)))).1 else 0) := hq
      have nx : ∀ acc2, acc2 = (lnE F ln (acc, (0, 0))).1 → ∀ y79 : Int32, y79 = nI i + (1 : Int32) → wX8_joy_7 (mk sh' V R) k s9 Q (u + 1) acc2 y79 := by
        intro acc2 ha
        refine nm_r (nI_1 i) (ih (i + 1) acc2 (by omega) ?_)
        have e : (lsE F (ls.drop (i + 1)) (acc2, (0, 0))).1 = (lsE F (ls.drop (i + 1)) (lnE F ln (acc, (0, 0)))).1 := by
          have h1 : lnE F ln (acc, (0, 0)) = ((lnE F ln (acc, (0, 0))).1, (lnE F ln (acc, (0, 0))).2) := rfl
          rw [ha, h1]
          have aux : ∀ (l : List Ln) (w : Int32) (p p2 : Int32 × Int32), (lsE F l (w, p)).1 = (lsE F l (w, p2)).1 := by
            intro l
            induction l with
            | nil => intro w p p2; rfl
            | cons m l il =>
              intro w p p2
              have hh : (lnE F m (w, p)).1 = (lnE F m (w, p2)).1 := rfl
              show (lsE F l ((lnE F m (w, p)).1, (lnE F m (w, p)).2)).1 = (lsE F l ((lnE F m (w, p2)).1, (lnE F m (w, p2)).2)).1
              rw [hh]
              exact il _ _ _
          exact aux _ _ _ _
        rw [e]
        exact hq1
      refine ⟨_, d1, d2, _, d1, d2, some (59 + ln.1), rfl, 59 + ln.1, rfl, fun z => ?_, fun z => ⟨Or.inr (Or.inr (Or.inr ⟨by omega, by omega, by decide, by decide, z⟩)), ?_⟩⟩
      · refine nx acc ?_
        unfold lnE
        have : ln.1 = 2 := by omega
        split
        · rw [if_neg (by omega), if_neg (by omega)]
        · rfl
      · refine ⟨_, d1, d4 s9 F hF2 _ ⟨fun z2 => nx acc ?_, fun z2 => ?_⟩⟩
        · unfold lnE
          rw [if_neg (b2i_0.mp z2)]
        · have hh : ln.2.2 F = true := Classical.byContradiction fun w => z2 (b2i_f w)
          refine ⟨_, d1, d2, some (59 + ln.1), rfl, 59 + ln.1, rfl, fun z3 => ⟨_, d1, d2, nI ln.2.1, rfl, nm_e (nx _ ?_)⟩, fun z3 => ⟨Or.inr (Or.inr (Or.inr ⟨by omega, by omega, by decide, by decide, z3⟩)), _, d1, d2, nI ln.2.1, rfl, nm_e (nx _ ?_)⟩⟩
          · unfold lnE
            rw [if_pos hh, if_pos (by omega)]
          · unfold lnE
            rw [if_pos hh, if_neg (by omega), if_pos (by omega)]
  · -- admits
    unfold wX8_admits
    have hF2 := hF
    obtain ⟨fs, g1, g2, g3, g4, -⟩ := hF
    have hQ2 : Q (b2i ((if (lsE F (ls.drop 0) (0, (0, 0))).2.1 = 0 then decide (¬ F 7 = 0) else decide (¬ (lsE F (ls.drop 0) (0, (0, 0))).2.2 = 0)) = true)) := by rw [List.drop_zero]; exact hQ
    suffices H : ∀ u i ha, i + u = ids.length → jz ha → Q (b2i ((if (lsE F (ls.drop i) (0, (ha, 0))).2.1 = 0 then decide (¬ F 7 = 0) else decide (¬ (lsE F (ls.drop i) (0, (ha, 0))).2.2 = 0)) = true)) → wX8_admits_4 (mk sh' V R) k s9 Q (u + 1) ha (nI i) from ⟨_, H _ 0 0 (Nat.zero_add _) (Or.inl rfl) hQ2⟩
    intro u
    induction u with
    | zero =>
      intro i ha hi hjz hq
      rw [List.drop_eq_nil_of_le (by omega)] at hq
      have hq1 : Q (b2i ((if ha = 0 then decide (¬ F 7 = 0) else decide (¬ (0 : Int32) = 0)) = true)) := hq
      refine ⟨_, mk_atF e0, hkj, some h, rfl, h, rfl, _, mk_atF e1, size _ (br_t (by rw [show i = ids.length by omega]; exact Int32.le_refl _) ⟨fun z => ?_, fun z => ?_⟩)⟩
      · rw [if_neg z] at hq1
        exact hq1
      · rw [if_pos z] at hq1
        refine ⟨fs, g1, g2, F 7, g3 7 (by decide), fun z2 => ?_, fun z2 => ?_⟩
        · rw [b2i_f (by rw [z2]; decide)] at hq1; exact hq1
        · rw [b2i_t (decide_eq_true z2)] at hq1; exact hq1
    | succ u ih =>
      intro i ha hi hjz hq
      refine ⟨_, mk_atF e0, hkj, some h, rfl, h, rfl, _, mk_atF e1, size _ (br_f (nI_ge (by omega) (by omega)) ⟨_, mk_atF e0, hkj, some h, rfl, h, rfl, _, mk_atF e1, get i _ (by omega) ⟨_, rfl, ?_⟩⟩)⟩
      obtain ⟨o, d1, d2, d3, d4⟩ := hD i (by omega) sh' (fun j t hj ht => hkp j t (hS j hj) ht) hC V R
      rw [hdr i (by omega)] at hq
      generalize ls.getD i (0, 0, fun _ => false) = ln at d1 d3 d4 hq
      have hq1 : Q (b2i ((if (lsE F (ls.drop (i + 1)) (lnE F ln (0, (ha, 0)))).2.1 = 0 then decide (¬ F 7 = 0) else decide (¬ (lsE F (ls.drop (i + 1)) (lnE F ln (0, (ha, 0)))).2.2 = 0)) = true)) := hq
      have h1 : lnE F ln (0, (ha, 0)) = ((lnE F ln (0, (ha, 0))).1, (lnE F ln (0, (ha, 0))).2) := rfl
      rw [h1, lsE_snd (v := 0)] at hq1
      refine ⟨_, d1, d2, _, d1, d2, some (59 + ln.1), rfl, 59 + ln.1, rfl, fun z => ?_, fun z => ⟨Or.inr (Or.inr (Or.inr ⟨by omega, by omega, by decide, by decide, z⟩)), ?_⟩⟩
      · have k2 : ln.1 = 2 := by omega
        refine ⟨_, d1, d4 s9 F hF2 _ ⟨fun z2 => nm_r (nI_1 i) (ih (i + 1) 1 (by omega) (Or.inr rfl) ?_), fun z2 => ?_⟩⟩
        · have e : (lnE F ln (0, (ha, 0))).2 = (1, 0) := by
            show ((if ln.1 = 2 then (1 : Int32) else ha), (if ln.2.2 F = true ∧ ln.1 = 2 then (1 : Int32) else 0)) = _
            rw [if_pos k2, if_neg (fun w => (b2i_0.mp z2) w.1)]
          rw [e] at hq1
          exact hq1
        · have hh : ln.2.2 F = true := Classical.byContradiction fun w => z2 (b2i_f w)
          have e : (lnE F ln (0, (ha, 0))).2 = (1, 1) := by
            show ((if ln.1 = 2 then (1 : Int32) else ha), (if ln.2.2 F = true ∧ ln.1 = 2 then (1 : Int32) else 0)) = _
            rw [if_pos k2, if_pos ⟨hh, k2⟩]
          rw [e, lsE_ha1 (z := (0, (1, 1))) rfl, lsE_ad1 (z := (0, (1, 1))) rfl] at hq1
          exact hq1
      · have k2 : ¬ ln.1 = 2 := by omega
        have e : (lnE F ln (0, (ha, 0))).2 = (ha, 0) := by
          show ((if ln.1 = 2 then (1 : Int32) else ha), (if ln.2.2 F = true ∧ ln.1 = 2 then (1 : Int32) else 0)) = _
          rw [if_neg k2, if_neg (fun w => k2 w.2)]
        rw [e] at hq1
        exact nm_r (nI_1 i) (ih (i + 1) ha (by omega) hjz hq1)
end LA
