/-! ===== PURE: weeks ahead, settle, trial, span in the twin ===== -/
/-- what a question of the twin leaves as it was -/
def TqF (V : Nat → Nat → Int32) (t : Nat) (V' : Nat → Nat → Int32) : Prop := (∀ b, b ≠ t → b ≠ t + 3 → b ≠ t + 6 → V' b = V b) ∧ (∀ j, j < 9 ∨ j = 12 → V' t j = V t j) ∧ jz (V' t 15) ∧ jz (V' t 16)
def oTq (o : Ot) (t : Nat) (V : Nat → Nat → Int32) (Q : Int32 → (Nat → Nat → Int32) → Prop) : Prop := match o with | .inl r => ∀ V', TqF (vset V t 0 0) t V' → Q r V' | .inr e => ∀ V', TqF (vset V t 0 e.2) t V' → ∀ r, Q r V'
section TA
variable {sh : List jH} {V : Nat → Nat → Int32} {R : Nat → Nat → Option Nat} {t : Nat} {law : Option (List Ln)} {Q : Int32 → (Nat → Nat → Int32) → Prop} {P : (Nat → Nat → Int32) → Prop}
theorem TqF.refl (h15 : jz (V t 15)) (h16 : jz (V t 16)) : TqF V t V := ⟨fun _ _ _ _ => rfl, fun _ _ => rfl, h15, h16⟩
theorem TqF.ask {V1 : Nat → Nat → Int32} (h : AskF V t V1) : TqF V t V1 := ⟨fun b h1 _ h3 => h.1 b h1 h3, fun j hj => h.2.1 j (by omega), h.2.2⟩
theorem s6_putsAside (hq : ∀ V', (∀ b, b ≠ t + 3 → V' b = V b) → (∀ j, j < 619 → V' (t + 3) j = V (t + 1) j) → P V') : wX6_putsAside t V P := by
  refine ⟨_, vloop (fun f (c : Nat → Nat → Int32) i => wX6_putsAside_2 t P f c (nI i)) (fun i c => (∀ b, b ≠ t + 3 → c b = V b) ∧ ∀ j, j < i → c (t + 3) j = V (t + 1) j) 619 ?_ ?_ 619 0 V (Nat.zero_add _) ⟨fun _ _ => rfl, fun j hj => absurd hj (by omega)⟩⟩
  · intro f c hI
    show wX6_putsAside_2 t P (f + 1) c (nI 619)
    rw [wX6_putsAside_2]
    exact br_t (by decide) (hq c hI.1 hI.2)
  · intro f c i hi hI hk
    show wX6_putsAside_2 t P (f + 1) c (nI i)
    rw [wX6_putsAside_2]
    refine br_f (nI_ge hi (by decide)) ⟨vp_in_nI (by omega) (by decide), fun y hy => ⟨vp_in_nI hi (by decide), fun y2 hy2 => ?_⟩⟩
    rw [hy2, nI_1, nI_clamp (by omega)]
    rw [nI_clamp (by omega)] at hy
    refine hk _ ⟨fun b hb => by rw [vset_n _ _ _ hb]; exact hI.1 b hb, fun j hj => ?_⟩
    rw [vset_at]
    split
    · next z => rw [z, hy, hI.1 _ (by omega)]
    · next z => exact hI.2 j (by omega)
theorem s6_comesBack (hq : ∀ V', (∀ b, b ≠ t + 1 → V' b = V b) → (∀ j, V' (t + 1) j = if j < 619 then V (t + 3) j else V (t + 1) j) → P V') : wX6_comesBack t V P := by
  refine ⟨_, vloop (fun f (c : Nat → Nat → Int32) i => wX6_comesBack_2 t P f c (nI i)) (fun i c => (∀ b, b ≠ t + 1 → c b = V b) ∧ ∀ j, c (t + 1) j = if j < i then V (t + 3) j else V (t + 1) j) 619 ?_ ?_ 619 0 V (Nat.zero_add _) ⟨fun _ _ => rfl, fun j => by rw [if_neg (by omega)]⟩⟩
  · intro f c hI
    show wX6_comesBack_2 t P (f + 1) c (nI 619)
    rw [wX6_comesBack_2]
    exact br_t (by decide) (hq c hI.1 hI.2)
  · intro f c i hi hI hk
    show wX6_comesBack_2 t P (f + 1) c (nI i)
    rw [wX6_comesBack_2]
    refine br_f (nI_ge hi (by decide)) ⟨vp_in_nI hi (by decide), fun y hy => ⟨vp_in_nI (by omega) (by decide), fun y2 hy2 => ?_⟩⟩
    rw [hy2, nI_1, nI_clamp (by omega)]
    rw [nI_clamp (by omega)] at hy
    refine hk _ ⟨fun b hb => by rw [vset_n _ _ _ hb]; exact hI.1 b hb, fun j => ?_⟩
    rw [vset_at]
    split
    · next z => rw [z, hy, hI.1 _ (by omega), if_pos (by omega)]
    · next z =>
      rw [hI.2 j]
      by_cases z2 : j < i
      · rw [if_pos z2, if_pos (by omega)]
      · rw [if_neg z2, if_neg (by omega)]
/-- in the midst of a question that has put the row m aside -/
def Amid (V : Nat → Nat → Int32) (t : Nat) (m : Nat → Int32) (c : Nat → Nat → Int32) : Prop := (∀ b, b ≠ t → b ≠ t + 1 → b ≠ t + 3 → b ≠ t + 6 → c b = V b) ∧ (∀ j, j < 9 ∨ j = 12 → c t j = V t j) ∧ jz (c t 15) ∧ jz (c t 16) ∧ (∀ j, j < 619 → c (t + 3) j = m j)
theorem Amid.tw {m : Nat → Int32} {c c2 : Nat → Nat → Int32} (h : Amid V t m c) (h2 : TwF c t c2) : Amid V t m c2 :=
  ⟨fun b b1 b2 b3 b4 => (h2.1 b b1 b2 b4).trans (h.1 b b1 b2 b3 b4), fun j hj => (h2.2.1 j hj).trans (h.2.1 j hj), h2.2.2.1, h2.2.2.2, fun j hj => by rw [h2.1 (t + 3) (by omega) (by omega) (by omega)]; exact h.2.2.2.2 j hj⟩
theorem s6_aside (h15 : jz (V t 15)) (h16 : jz (V t 16)) (hq : ∀ c, Amid V t (V (t + 1)) c → c (t + 1) = V (t + 1) → P c) : wX6_putsAside t V P :=
  s6_putsAside (fun c h1 h2 => hq c ⟨fun b _ _ b3 _ => h1 b b3, fun j _ => by rw [h1 t (by omega)], by rw [h1 t (by omega)]; exact h15, by rw [h1 t (by omega)]; exact h16, h2⟩ (h1 _ (by omega)))
theorem s6_back {c : Nat → Nat → Int32} (hA : Amid V t (V (t + 1)) c) (hw : ∀ j, 619 ≤ j → c (t + 1) j = V (t + 1) j) (hq : ∀ V', TqF V t V' → P V') : wX6_comesBack t c P :=
  s6_comesBack (fun c2 h1 h2 => hq c2 ⟨fun b b1 b2 b3 => by
    by_cases z : b = t + 1
    · rw [z]
      funext j
      rw [h2]
      by_cases z2 : j < 619
      · rw [if_pos z2]; exact hA.2.2.2.2 j z2
      · rw [if_neg z2]; exact hw j (by omega)
    · rw [h1 b z]; exact hA.1 b b1 z b2 b3, fun j hj => by rw [h1 t (by omega)]; exact hA.2.1 j hj, by rw [h1 t (by omega)]; exact hA.2.2.1, by rw [h1 t (by omega)]; exact hA.2.2.2.1⟩)
theorem s6_goes0 {n : Nat} (hC : ConSh sh) (hR : RowOk (V (t + 1))) (hL : LawT (V (t + 1)) law) (h15 : jz (V t 15)) (h16 : jz (V t 16)) (hN : n ≤ 60) (hq : ∀ V', TwF V t V' → V' (t + 1) = (weeksR true false law n (V (t + 1))).1 → V' t 20 = (weeksR true false law n (V (t + 1))).2.2 → Q (weeksR true false law n (V (t + 1))).2.1 V') : wX6_goes t sh R V (nI n) 0 Q := s6_goes (draws := false) hC hR hL h15 h16 hN hq
theorem s6_goes1 {n : Nat} (hC : ConSh sh) (hR : RowOk (V (t + 1))) (hL : LawT (V (t + 1)) law) (h15 : jz (V t 15)) (h16 : jz (V t 16)) (hN : n ≤ 60) (hq : ∀ V', TwF V t V' → V' (t + 1) = (weeksR true true law n (V (t + 1))).1 → V' t 20 = (weeksR true true law n (V (t + 1))).2.2 → Q (weeksR true true law n (V (t + 1))).2.1 V') : wX6_goes t sh R V (nI n) 1 Q := s6_goes (draws := true) hC hR hL h15 h16 hN hq
theorem jzk0 {k : Nat} {s : Int32} (hk : k ≠ 0) (h : jz (V t k)) : jz (vset V t 0 s t k) := by rw [vset_at, if_neg hk]; exact h
theorem tq_th {e : String × Int32} {r : Int32} (h15 : jz (V t 15)) (h16 : jz (V t 16)) (hq : oTq (.inr e) t V Q) : Q r (vset V t 0 e.2) := hq _ (TqF.refl (jzk0 (by decide) h15) (jzk0 (by decide) h16)) r
theorem s6_gladder {a : Int32} (hC : ConSh sh) (hR : RowOk (V (t + 1))) (hL : LawT (V (t + 1)) law) (h15 : jz (V t 15)) (h16 : jz (V t 16)) (hq : oTq (o_gladder (V (t + 1)) law a) t V Q) : wX6_gladder t sh R V a Q := by
  unfold o_gladder at hq
  refine s6_isIn ?_
  by_cases c : inI a 0 60
  · rw [b2i_t c]
    obtain ⟨n, hn, rfl, e⟩ := in60 c
    rw [if_pos c, e] at hq
    refine ⟨fun _ => ?_, fun z => absurd z (by decide)⟩
    unfold wX6_gladder_16
    rw [vt0]
    refine br_t (by decide) ?_
    have hq : ∀ V', TqF (vset V t 0 0) t V' → Q _ V' := hq
    have e1 : vset V t 0 0 (t + 1) = V (t + 1) := vt1
    rw [← e1] at hR hL hq
    have h15 : jz (vset V t 0 0 t 15) := jzk0 (by decide) h15
    have h16 : jz (vset V t 0 0 t 16) := jzk0 (by decide) h16
    generalize vset V t 0 0 = V1 at *
    refine s6_gladness hR (s6_aside h15 h16 (fun c a1 a2 => ?_))
    refine s6_goes0 (law := law) (n := n) hC (by rw [a2]; exact hR) (by rw [a2]; exact hL) a1.2.2.1 a1.2.2.2.1 hn (fun c2 b1 b2 _ => ?_)
    have hk := wk_weeks (told := true) (draws := false) (law := law) n 0 (V1 (t + 1), 0, 0) hR.H8
    rw [a2] at b2
    refine s6_gladness (by rw [b2]; exact hk.row hR) ?_
    refine s6_back (a1.tw b1) (fun j hj => by rw [b2]; exact hk.2.2.2.1 j hj) (fun V' f => ?_)
    rw [b2]
    exact hq V' f
  · rw [b2i_f c]
    rw [if_neg c] at hq
    refine ⟨fun z => absurd rfl z, fun _ => ?_⟩
    unfold wX6_gladder_16
    rw [vt0]
    exact br_f (by decide) (tq_th h15 h16 hq)
theorem s6_ahead {h a w : Int32} (hC : ConSh sh) (hR : RowOk (V (t + 1))) (hL : LawT (V (t + 1)) law) (h15 : jz (V t 15)) (h16 : jz (V t 16)) (hq : oTq (o_ahead (V (t + 1)) law h a w) t V Q) : wX6_ahead t sh R V h a w Q := by
  unfold o_ahead at hq
  refine s6_isHost ?_
  by_cases c : isHostP (V (t + 1)) h
  · rw [b2i_t c]
    rw [if_pos c] at hq
    obtain ⟨k, hk, hk8, rfl⟩ := hR.host c
    refine ⟨fun _ => s6_isIn ?_, fun z => absurd z (by decide)⟩
    by_cases d : inI a 0 60
    · rw [b2i_t d]
      rw [if_pos d] at hq
      obtain ⟨n, hn, rfl, e⟩ := in60 d
      refine ⟨fun _ => s6_isIn ?_, fun z => absurd z (by decide)⟩
      by_cases d2 : inI w 0 1
      · rw [b2i_t d2]
        rw [if_pos d2, e, cl8 hk8] at hq
        obtain ⟨i, hi, rfl⟩ := (inI_lit (n := 1) (by decide)).1 d2
        rw [nI_clamp (by omega)] at hq
        refine ⟨fun _ => ?_, fun z => absurd z (by decide)⟩
        unfold wX6_ahead_41
        rw [vt0]
        refine br_t (by decide) ?_
        have hq : ∀ V', TqF (vset V t 0 0) t V' → Q _ V' := hq
        have e1 : vset V t 0 0 (t + 1) = V (t + 1) := vt1
        rw [← e1] at hR hL hq
        have h15 : jz (vset V t 0 0 t 15) := jzk0 (by decide) h15
        have h16 : jz (vset V t 0 0 t 16) := jzk0 (by decide) h16
        generalize vset V t 0 0 = V1 at *
        refine s6_aside h15 h16 (fun c a1 a2 => ?_)
        refine s6_goes0 (law := law) (n := n) hC (by rw [a2]; exact hR) (by rw [a2]; exact hL) a1.2.2.1 a1.2.2.2.1 hn (fun c2 b1 b2 _ => ?_)
        have hk := wk_weeks (told := true) (draws := false) (law := law) n 0 (V1 (t + 1), 0, 0) hR.H8
        rw [a2] at b2
        have e3 : (2 : Int32) + nI i = nI (2 + i) := nI_add 2 i
        rw [e3]
        refine s6_of hk8 (by omega) ?_
        refine s6_back (a1.tw b1) (fun j hj => by rw [b2]; exact hk.2.2.2.1 j hj) (fun V' f => ?_)
        rw [b2, show 11 + 4 * k + (2 + i) = 13 + 4 * k + i by omega]
        exact hq V' f
      · rw [b2i_f d2]
        rw [if_neg d2] at hq
        refine ⟨fun z => absurd rfl z, fun _ => ?_⟩
        unfold wX6_ahead_41
        rw [vt0]
        exact br_f (by decide) (tq_th h15 h16 hq)
    · rw [b2i_f d]
      rw [if_neg d] at hq
      refine ⟨fun z => absurd rfl z, fun _ => ?_⟩
      unfold wX6_ahead_41
      rw [vt0]
      exact br_f (by decide) (tq_th h15 h16 hq)
  · rw [b2i_f c]
    rw [if_neg c] at hq
    refine ⟨fun z => absurd rfl z, fun _ => ?_⟩
    unfold wX6_ahead_41
    rw [vt0]
    exact br_f (by decide) (tq_th h15 h16 hq)
theorem s6_settle {h : Int32} (hC : ConSh sh) (hR : RowOk (V (t + 1))) (hL : LawT (V (t + 1)) law) (h15 : jz (V t 15)) (h16 : jz (V t 16)) (hq : oTq (o_settle (V (t + 1)) law h) t V Q) : wX6_settle t sh R V h Q := by
  unfold o_settle at hq
  refine s6_isHost ?_
  by_cases c : isHostP (V (t + 1)) h
  · rw [b2i_t c]
    rw [if_pos c] at hq
    obtain ⟨k, hk, hk8, rfl⟩ := hR.host c
    rw [cl8 hk8] at hq
    refine ⟨fun _ => ?_, fun z => absurd z (by decide)⟩
    unfold wX6_settle_14
    rw [vt0]
    refine br_t (by decide) ?_
    have hq : ∀ V', TqF (vset V t 0 0) t V' → Q _ V' := hq
    have e1 : vset V t 0 0 (t + 1) = V (t + 1) := vt1
    rw [← e1] at hR hL hq
    have h15 : jz (vset V t 0 0 t 15) := jzk0 (by decide) h15
    have h16 : jz (vset V t 0 0 t 16) := jzk0 (by decide) h16
    generalize vset V t 0 0 = V1 at *
    refine s6_aside h15 h16 (fun c a1 a2 => ?_)
    have fin : ∀ (c : Nat → Nat → Int32) (r : Int32), Amid V1 t (V1 (t + 1)) c → WkS (V1 (t + 1)) (c (t + 1)) → r = f_settle (V1 (t + 1)) law k → wX6_settle_72 t sh R (nI k) Q c r := fun c r g1 g2 g3 => by
      unfold wX6_settle_72
      refine s6_back g1 g2.2.2.2.1 (fun V' f => ?_)
      rw [g3]
      exact hq V' f
    refine ⟨_, vloop (fun f (c : (Nat → Nat → Int32) × Int32) i => wX6_settle_34 t sh R (nI k) Q f c.1 c.2 (nI i)) (fun i c => Amid V1 t (V1 (t + 1)) c.1 ∧ WkS (V1 (t + 1)) (c.1 (t + 1)) ∧ (fo (setS law k) (61 - i) i (c.1 (t + 1), c.2)).2 = f_settle (V1 (t + 1)) law k) 61 ?_ ?_ 60 1 (c, (-1 : Int32)) (by omega) ⟨a1, by show WkS _ (c (t + 1)); rw [a2]; exact WkS.refl, by show (fo (setS law k) (61 - 1) 1 (c (t + 1), -1)).2 = _; rw [a2]; rfl⟩⟩
    · intro f c hI
      obtain ⟨i1, i2, i3⟩ := hI
      rw [fo_end] at i3
      show wX6_settle_34 t sh R (nI k) Q (f + 1) c.1 c.2 (nI 61)
      rw [wX6_settle_34]
      exact br_t (by decide) (fin _ _ i1 i2 i3)
    · intro f c i hi hI hk2
      obtain ⟨c, r⟩ := c
      obtain ⟨i1, i2, i3⟩ := hI
      have i1 : Amid V1 t (V1 (t + 1)) c := i1
      have i2 : WkS (V1 (t + 1)) (c (t + 1)) := i2
      show wX6_settle_34 t sh R (nI k) Q (f + 1) c r (nI i)
      rw [wX6_settle_34]
      refine br_f (by show ¬ nI 60 < nI i; rw [nI_ltI (by omega) (by omega)]; omega) ?_
      refine ⟨fun z => ?_, fun z => ?_⟩
      · rw [set_stay (z := (c (t + 1), r)) z] at i3
        exact fin c r i1 i2 i3
      · subst z
        have hR1 := i2.row hR
        refine s6_goes0 (law := law) (n := 1) hC hR1 (i2.law hL) i1.2.2.1 i1.2.2.2.1 (by omega) (fun c2 b1 b2 b3 => ?_)
        rw [fo_pop hi, show ((c, (-1 : Int32)).1 (t + 1), (c, (-1 : Int32)).2) = (c (t + 1), -1) from rfl, set_new] at i3
        have ew : weeksR true false law 1 (c (t + 1)) = weekS true false law 0 (c (t + 1), 0, 0) := rfl
        have hk := wk_weeks (told := true) (draws := false) (law := law) 1 0 (c (t + 1), 0, 0) hR1.H8
        have hk : WkS (c (t + 1)) (weeksR true false law 1 (c (t + 1))).1 := hk
        rw [ew] at hk b2 b3
        generalize weekS true false law 0 (c (t + 1), 0, 0) = A at *
        refine s6_isOf ?_
        rw [b3]
        by_cases b : isOf A.2.2 (nI k)
        · rw [b2i_t b]
          rw [if_pos b] at i3
          refine ⟨fun z => absurd z (by decide), fun _ => nm_r (nI_1 i) (hk2 (c2, nI i) ⟨i1.tw b1, by show WkS _ (c2 (t + 1)); rw [b2]; exact i2.trans hk, ?_⟩)⟩
          show (fo (setS law k) _ _ (c2 (t + 1), nI i)).2 = _
          rw [b2]
          exact i3
        · rw [b2i_f b]
          rw [if_neg b] at i3
          refine ⟨fun _ => nm_r (nI_1 i) (hk2 (c2, -1) ⟨i1.tw b1, by show WkS _ (c2 (t + 1)); rw [b2]; exact i2.trans hk, ?_⟩), fun z => absurd rfl z⟩
          show (fo (setS law k) _ _ (c2 (t + 1), -1)).2 = _
          rw [b2]
          exact i3
  · rw [b2i_f c]
    rw [if_neg c] at hq
    refine ⟨fun z => absurd rfl z, fun _ => ?_⟩
    unfold wX6_settle_14
    rw [vt0]
    exact br_f (by decide) (tq_th h15 h16 hq)
theorem s6_trial {a w : Int32} (hC : ConSh sh) (hR : RowOk (V (t + 1))) (hL : LawT (V (t + 1)) law) (h15 : jz (V t 15)) (h16 : jz (V t 16)) (hq : oTq (o_trial (V (t + 1)) law a w) t V Q) : wX6_trial t sh R V a w Q := by
  unfold o_trial at hq
  refine s6_isIn ?_
  by_cases c : inI a 0 60
  · rw [b2i_t c]
    obtain ⟨n, hn, rfl, e⟩ := in60 c
    rw [if_pos c, e] at hq
    refine ⟨fun _ => ?_, fun z => absurd z (by decide)⟩
    unfold wX6_trial_16
    rw [vt0]
    refine br_t (by decide) ?_
    have hq : ∀ V', TqF (vset V t 0 0) t V' → Q _ V' := hq
    have e1 : vset V t 0 0 (t + 1) = V (t + 1) := vt1
    rw [← e1] at hR hL hq
    have h15 : jz (vset V t 0 0 t 15) := jzk0 (by decide) h15
    have h16 : jz (vset V t 0 0 t 16) := jzk0 (by decide) h16
    generalize vset V t 0 0 = V1 at *
    refine s6_aside h15 h16 (fun c a1 a2 => ?_)
    refine s6_goes1 (law := law) (n := n) hC (by rw [a2]; exact hR) (by rw [a2]; exact hL) a1.2.2.1 a1.2.2.2.1 hn (fun c2 b1 b2 b3 => ?_)
    have hk := wk_weeks (told := true) (draws := true) (law := law) n 0 (V1 (t + 1), 0, 0) hR.H8
    rw [a2] at b2 b3
    have fin : ∀ r, r = (if w = 0 then f_gladness (weeksR true true law n (V1 (t + 1))).1 else (weeksR true true law n (V1 (t + 1))).2.2) → wX6_trial_54 t sh R (nI n) w Q c2 r := fun r hr => by
      unfold wX6_trial_54
      refine s6_back (a1.tw b1) (fun j hj => by rw [b2]; exact hk.2.2.2.1 j hj) (fun V' f => ?_)
      rw [hr]
      exact hq V' f
    refine ⟨fun z => s6_gladness (by rw [b2]; exact hk.row hR) (fin _ (by rw [if_pos z, b2])), fun z => fin _ (by rw [if_neg z, b3])⟩
  · rw [b2i_f c]
    rw [if_neg c] at hq
    refine ⟨fun z => absurd rfl z, fun _ => ?_⟩
    unfold wX6_trial_16
    rw [vt0]
    exact br_f (by decide) (tq_th h15 h16 hq)
theorem s6_span {a w : Int32} (hC : ConSh sh) (hR : RowOk (V (t + 1))) (hL : LawT (V (t + 1)) law) (h15 : jz (V t 15)) (h16 : jz (V t 16)) (hq : oTq (o_span (V (t + 1)) law a w) t V Q) : wX6_span t sh R V a w Q := by
  unfold o_span at hq
  refine s6_isIn ?_
  by_cases c : inI a 0 60
  · rw [b2i_t c]
    obtain ⟨n, hn, rfl, e⟩ := in60 c
    rw [if_pos c, e] at hq
    refine ⟨fun _ => ?_, fun z => absurd z (by decide)⟩
    unfold wX6_span_16
    rw [vt0]
    refine br_t (by decide) ?_
    have hq : ∀ V', TqF (vset V t 0 0) t V' → Q _ V' := hq
    have e1 : vset V t 0 0 (t + 1) = V (t + 1) := vt1
    rw [← e1] at hR hL hq
    have h15 : jz (vset V t 0 0 t 15) := jzk0 (by decide) h15
    have h16 : jz (vset V t 0 0 t 16) := jzk0 (by decide) h16
    generalize vset V t 0 0 = V1 at *
    refine s6_aside h15 h16 (fun c a1 a2 => ?_)
    refine ⟨_, vloop (fun f (c : (Nat → Nat → Int32) × Int32) i => wX6_span_37 t sh R (nI n) w Q f c.1 c.2 (nI i)) (fun i c => Amid V1 t (V1 (t + 1)) c.1 ∧ c.1 (t + 1) = V1 (t + 1) ∧ fo (spanS (V1 (t + 1)) law n w) (7 - i) i c.2 = f_span (V1 (t + 1)) law n w) 7 ?_ ?_ 6 1 (c, (-1 : Int32)) (by omega) ⟨a1, a2, rfl⟩⟩
    · intro f c hI
      obtain ⟨i1, i2, i3⟩ := hI
      rw [fo_end] at i3
      show wX6_span_37 t sh R (nI n) w Q (f + 1) c.1 c.2 (nI 7)
      rw [wX6_span_37]
      refine br_t (by decide) ?_
      rw [i3]
      refine hq _ ⟨fun b b1 b2 b3 => ?_, i1.2.1, i1.2.2.1, i1.2.2.2.1⟩
      by_cases z : b = t + 1
      · rw [z]; exact i2
      · exact i1.1 b b1 z b2 b3
    · intro f c i hi hI hk2
      obtain ⟨c, a0⟩ := c
      obtain ⟨i1, i2, i3⟩ := hI
      have i1 : Amid V1 t (V1 (t + 1)) c := i1
      have i2 : c (t + 1) = V1 (t + 1) := i2
      show wX6_span_37 t sh R (nI n) w Q (f + 1) c a0 (nI i)
      rw [wX6_span_37]
      refine br_f (by show ¬ nI 6 < nI i; rw [nI_ltI (by omega) (by omega)]; omega) ?_
      have es : vset c (t + 1) 10 (nI i) (t + 1) = upd (V1 (t + 1)) 10 (nI i) := by rw [vset_s, i2]
      have hR2 : RowOk (upd (V1 (t + 1)) 10 (nI i)) := hR.seed
      have k0 : WkS (V1 (t + 1)) (upd (V1 (t + 1)) 10 (nI i)) := wk_upd (Or.inr (Or.inl rfl))
      have et : vset c (t + 1) 10 (nI i) t = c t := vset_n _ _ _ (by omega)
      refine s6_goes1 (law := law) (n := n) hC (by rw [es]; exact hR2) (by rw [es]; exact k0.law hL) (by rw [et]; exact i1.2.2.1) (by rw [et]; exact i1.2.2.2.1) hn (fun c2 b1 b2 _ => ?_)
      rw [es] at b2
      have hk := wk_weeks (told := true) (draws := true) (law := law) n 0 (upd (V1 (t + 1)) 10 (nI i), 0, 0) hR2.H8
      have hk : WkS _ (weeksR true true law n (upd (V1 (t + 1)) 10 (nI i))).1 := hk
      have a0' : Amid V1 t (V1 (t + 1)) (vset c (t + 1) 10 (nI i)) := ⟨fun b b1 b2 b3 b4 => by rw [vset_n _ _ _ b2]; exact i1.1 b b1 b2 b3 b4, fun j hj => by rw [et]; exact i1.2.1 j hj, by rw [et]; exact i1.2.2.1, by rw [et]; exact i1.2.2.2.1, fun j hj => by rw [vset_n _ _ _ (by omega)]; exact i1.2.2.2.2 j hj⟩
      have a3 := a0'.tw b1
      refine s6_gladness (by rw [b2]; exact hk.row hR2) ?_
      refine s6_comesBack (fun c3 h1 h2 => ?_)
      have h3 : c3 (t + 1) = V1 (t + 1) := by
        funext j
        rw [h2]
        by_cases z2 : j < 619
        · rw [if_pos z2]; exact a3.2.2.2.2 j z2
        · rw [if_neg z2, b2]; exact (k0.trans hk).2.2.2.1 j (by omega)
      have a4 : Amid V1 t (V1 (t + 1)) c3 := ⟨fun b b1 b2 b3 b4 => by rw [h1 b b2]; exact a3.1 b b1 b2 b3 b4, fun j hj => by rw [h1 t (by omega)]; exact a3.2.1 j hj, by rw [h1 t (by omega)]; exact a3.2.2.1, by rw [h1 t (by omega)]; exact a3.2.2.2.1, fun j hj => by rw [h1 _ (by omega)]; exact a3.2.2.2.2 j hj⟩
      rw [fo_pop hi] at i3
      have hs : spanS (V1 (t + 1)) law n w i a0 = spanS (V1 (t + 1)) law n w i a0 := rfl
      conv at hs => rhs; unfold spanS
      rw [b2]
      generalize f_gladness (weeksR true true law n (upd (V1 (t + 1)) 10 (nI i))).1 = gl at *
      have k2 : ∀ b, b = spanS (V1 (t + 1)) law n w i a0 → wX6_span_37 t sh R (nI n) w Q f c3 b (nI i + 1) := fun b hb => by
        rw [nI_1]
        exact hk2 (c3, b) ⟨a4, h3, by rw [hb]; exact i3⟩
      refine ⟨fun z => ?_, fun z => ?_⟩
      · rw [if_neg z] at hs
        refine ⟨fun z2 => ?_, fun z2 => ?_⟩
        · rw [if_pos z2] at hs
          refine ⟨fun z3 y2 hy2 => ?_, fun z3 y2 hy2 => ?_⟩
          · rw [hy2]
            refine k2 _ ?_
            rw [hs]
            by_cases z4 : gl < a0
            · rw [if_pos z4]
            · rw [if_neg z4]; exact Int32.le_antisymm z3 (Int32.not_lt.1 z4)
          · rw [hy2]
            refine k2 _ ?_
            rw [hs, if_neg (fun z4 => z3 (Int32.le_of_lt z4))]
        · rw [if_neg z2] at hs
          refine ⟨fun z3 y2 hy2 => ?_, fun z3 y2 hy2 => ?_⟩
          · rw [hy2]
            refine k2 _ ?_
            rw [hs]
            by_cases z4 : a0 < gl
            · rw [if_pos z4]
            · rw [if_neg z4]; exact Int32.le_antisymm (Int32.not_lt.1 z4) z3
          · rw [hy2]
            refine k2 _ ?_
            rw [hs, if_neg (fun z4 => z3 (Int32.le_of_lt z4))]
      · rw [if_pos z] at hs
        intro y2 hy2
        rw [hy2]
        exact k2 gl hs.symm
  · rw [b2i_f c]
    rw [if_neg c] at hq
    refine ⟨fun z => absurd rfl z, fun _ => ?_⟩
    unfold wX6_span_16
    rw [vt0]
    exact br_f (by decide) (tq_th h15 h16 hq)
end TA
