/-! ===== PURE: rather, on both sides ===== -/
def oTs (o : Ot) (t : Nat) (V : Nat → Nat → Int32) (Q : Int32 → (Nat → Nat → Int32) → Prop) : Prop := match o with | .inl r => ∀ V', TsF (vset V t 0 0) t V' → Q r V' | .inr e => ∀ V', TsF (vset V t 0 e.2) t V' → ∀ r, Q r V'
def uT (T : Nat → Nat) (h : Nat) : Int32 := if T h = 255 then -1 else nI (T h)
def raS (m : Nat → Int32) (T : Nat → Nat) (h : Nat) (o : Option (Nat → Int32)) : Option (Nat → Int32) := match o with | none => none | some v => if T h = 255 then some v else if f_may m h (T h) ∧ v (T h) = -1 then some (upd v (T h) (nI h)) else none
def raE (m : Nat → Int32) (T : Nat → Nat) (o : Option (Nat → Int32)) : Int32 := match o with | none => -1 | some v => f_rathers m (uT T) v
def raG (m : Nat → Int32) (T : Nat → Nat) (k : Nat) : Bool := decide (T k = 255 ∨ T k < nG m)
def o_rather (m : Nat → Int32) (T : Nat → Nat) (L : Nat) : Ot := if (decide (L = nH m) && allB (raG m T) L 0) = true then .inl (raE m T (fo (raS m T) L 0 (some (fun _ => -1)))) else .inr (xIa, 1)
section RA
variable {V : Nat → Nat → Int32} {x t L : Nat} {m : Nat → Int32} {T : Nat → Nat} {Q : Int32 → (Nat → Nat → Int32) → Prop} {X : String → (Nat → Nat → Int32) → Prop}
theorem ra_none {k i : Nat} : fo (raS m T) k i none = none := by
  induction k generalizing i with
  | zero => rfl
  | succ k ih => exact ih
theorem sb_255 : ∀ b : Fin 256, sb b.val &&& (255 : Int32) = nI b.val := by decide +kernel
theorem sb_and {b : Nat} (h : b < 256) : sb b &&& (255 : Int32) = nI b := sb_255 ⟨b, h⟩
theorem sb_guest {b : Nat} (hR : RowOk m) (hb : b < 256) : isGuestP m (sb b) ↔ b < nG m := by
  have g8 := hR.G8
  constructor
  · intro h
    obtain ⟨g, hg, _, e⟩ := hR.guest h
    have := (sb_eq hb (by omega)).1 e
    omega
  · intro h
    rw [(sb_eq hb (c := b) (by omega)).2 rfl, guest_nI hR (by omega), hR.G, nI_leI (by omega) (by omega)]
    omega
theorem allB_at {p : Nat → Bool} : ∀ (k i : Nat), allB p k i = true → ∀ j, i ≤ j → j < i + k → p j = true := by
  intro k
  induction k with
  | zero => intro i _ j h1 h2; omega
  | succ k ih =>
    intro i h j h1 h2
    have h : (p i && allB p k (i + 1)) = true := h
    rw [Bool.and_eq_true] at h
    by_cases z : j = i
    · rw [z]; exact h.1
    · exact ih (i + 1) h.2 j (by omega) (by omega)
/-- how far those told are put together -/
def raI (m : Nat → Int32) (T : Nat → Nat) (a b : Nat → Int32) (v : Nat → Int32) (h : Nat) : Prop := (∀ k, k < h → a k = uT T k) ∧ (∀ g, g < 8 → b g = v g) ∧ ∀ g, g < 8 → v g = -1 ∨ ∃ k, k < h ∧ v g = nI k
theorem s1_rather (hW : WRel V (x + 1) m) (hR : RowOk m) (hT : L ≤ 400) (h8 : ∀ i, i < L → T i < 256) (hC : TapeC V (x + 109) L (fun i => sb (T i))) (hq : ∀ V', (∀ b, b ≠ x + 149 + 1 → b ≠ x + 149 + 2 → V' b = begun V (x + 109) b) → oC (o_rather m T L) (fun r => Q r V') (fun e => X e V')) : wX1_rather x V Q X := by
  have hH8 := hR.H8; have g8 := hR.G8; have hH := hR.H; have hG := hR.G
  obtain ⟨c1, c2⟩ := hC
  unfold wX1_rather wX3_begins
  refine nm_e ?_
  change (_ → _) ∧ (_ → _)
  have e2 := begun_2 (V := V) (r := x + 109)
  have ew : WRel (begun V (x + 109)) (x + 1) m := hW.frame (fun a h1 h2 => begun_n (by omega)) hH8 g8
  have et : ∀ i, i < L → begun V (x + 109) (x + 109 + 1) i = sb (T i) := fun i hi => by rw [begun_n (by omega)]; exact c2 i hi
  rw [c1] at e2
  change (¬ begun V (x + 109) (x + 109) 2 = begun V (x + 109) (x + 1) 1 → wX1_rather_28 x Q X (begun V (x + 109)) 0) ∧ (begun V (x + 109) (x + 109) 2 = begun V (x + 109) (x + 1) 1 → wX1_rather_28 x Q X (begun V (x + 109)) 1)
  generalize begun V (x + 109) = V1 at *
  have h0 := hq V1 (fun _ _ _ => rfl)
  unfold o_rather at h0
  rw [e2, ew.hosts, hH]
  refine ⟨fun z => ?_, fun z => ?_⟩
  · unfold wX1_rather_28
    refine e1_demand ?_
    rw [if_pos rfl]
    rw [decide_eq_false (fun q : L = nH m => z (by rw [q])), Bool.false_and, if_neg (by decide)] at h0
    exact h0
  · have eL := nI_inj (by omega) (by omega) z
    unfold wX1_rather_28
    refine e1_demand ?_
    rw [if_neg (by decide)]
    refine ⟨_, vloop (fun n (_ : Unit) i => wX1_rather_33 x Q X n V1 (nI i)) (fun i _ => allB (raG m T) (L - i) i = allB (raG m T) L 0) L ?_ ?_ L 0 () (Nat.zero_add _) rfl⟩
    · intro n _ hI
      rw [Nat.sub_self] at hI
      have hI : true = allB (raG m T) L 0 := hI
      rw [wX1_rather_33, e2]
      refine br_t (Int32.le_refl _) (s5_clears (fun V2 f2 cl => ?_))
      unfold o_rather at hq
      rw [decide_eq_true eL, ← hI, Bool.true_and, if_pos rfl] at hq
      have hg : ∀ k, k < L → T k = 255 ∨ T k < nG m := fun k hk => of_decide_eq_true (allB_at L 0 hI.symm k (by omega) (by omega))
      refine ⟨_, vloop (fun n (b : (Nat → Nat → Int32)) i => wX1_rather_102 x Q X n b (nI i)) (fun i b => (∀ a, a ≠ x + 149 + 1 → a ≠ x + 149 + 2 → b a = V1 a) ∧ (∀ k, i ≤ k → k < 8 → b (x + 149 + 1) k = -1) ∧ ∃ v, raI m T (b (x + 149 + 1)) (b (x + 149 + 2)) v i ∧ fo (raS m T) (L - i) i (some v) = fo (raS m T) L 0 (some (fun _ => -1))) L ?_ ?_ L 0 V2 (Nat.zero_add _) ⟨f2, fun k _ hk => (cl k hk).1, fun _ => -1, ⟨fun k hk => absurd hk (by omega), fun g hg => (cl g hg).2, fun g _ => Or.inl rfl⟩, rfl⟩⟩
      · intro n b hI
        obtain ⟨i1, i2, v, i3, i4⟩ := hI
        rw [fo_end] at i4
        have hq := hq b i1
        rw [← i4] at hq
        rw [wX1_rather_102, i1 _ (by omega) (by omega), e2]
        refine br_t (Int32.le_refl _) (s5_rathers (u := uT T) (v := v) (ew.frame (fun a h1 h2 => i1 a (by omega) (by omega)) hH8 g8) hR (fun h hh => ⟨i3.1 h (by omega), ?_⟩) (fun g hgg => ⟨i3.2.1 g (by omega), ?_⟩) hq)
        · unfold uT
          by_cases z : T h = 255
          · exact Or.inl (if_pos z)
          · exact Or.inr ⟨T h, (hg h (by omega)).resolve_left z, if_neg z⟩
        · exact (i3.2.2 g (by omega)).imp id (fun ⟨k, hk, e⟩ => ⟨k, by omega, e⟩)
      · intro n b i hi hI hk
        obtain ⟨i1, i2, v, i3, i4⟩ := hI
        rw [fo_pop hi] at i4
        have wb : WRel b (x + 1) m := ew.frame (fun a h1 h2 => i1 a (by omega) (by omega)) hH8 g8
        have ti := h8 i hi
        have eb : b (x + 109 + 1) i = sb (T i) := by rw [i1 _ (by omega) (by omega)]; exact et i hi
        rw [wX1_rather_102, i1 (x + 109) (by omega) (by omega), e2]
        refine br_f (nI_ge hi (by omega)) ⟨vp_in_nI (by omega) (by decide), ?_⟩
        rw [nI_clamp (show i < 2 ^ 31 by omega), eb, sb_and ti]
        refine nm_e ?_
        unfold wX1_isTold
        by_cases z5 : T i = 255
        · refine br_t (by rw [z5]; rfl) ?_
          have es : raS m T i (some v) = some v := if_pos z5
          rw [es] at i4
          refine ⟨fun _ => ⟨fun z => absurd (show nI (T i) = 255 by rw [z5]; rfl) z, fun _ => nm_r (nI_1 i) (hk b ⟨i1, fun k h1 h2 => i2 k (by omega) h2, v, ⟨fun k hkk => ?_, i3.2.1, fun g hgg => (i3.2.2 g hgg).imp id (fun ⟨k, hk, e⟩ => ⟨k, by omega, e⟩)⟩, i4⟩)⟩, fun z => absurd z (by decide)⟩
          by_cases z6 : k = i
          · rw [z6, i2 i (by omega) (by omega)]
            exact (if_pos z5).symm
          · exact i3.1 k (by omega)
        · have tg := (hg i hi).resolve_left z5
          have n5 : ¬ nI (T i) = (255 : Int32) := fun z => z5 (nI_inj (by omega) (by decide) z)
          refine br_f n5 (s2_both wb hH8 g8 (by omega) tg (p_bz ?_))
          have es : raS m T i (some v) = if f_may m i (T i) ∧ v (T i) = -1 then some (upd v (T i) (nI i)) else none := if_neg z5
          rw [es] at i4
          have bad : ¬ (f_may m i (T i) ∧ v (T i) = -1) → Q (-1) b := fun z => by
            rw [if_neg z, ra_none] at i4
            have := hq b i1
            rw [← i4] at this
            exact this
          split
          · next zm =>
            refine ⟨in8 (by omega), ?_⟩
            rw [cl8 (show T i < 8 by omega), i3.2.1 (T i) (by omega)]
            refine ⟨fun z => ⟨fun z9 => absurd rfl z9, fun _ => bad (fun q => z q.2)⟩, fun z => ⟨fun _ => ⟨fun _ => ⟨in8 (by omega), in8 (by omega), ?_⟩, fun z9 => absurd z9 n5⟩, fun z => absurd z (by decide)⟩⟩
            rw [if_pos ⟨zm, z⟩] at i4
            refine nm_r (nI_1 i) (hk _ ⟨fun a h1 h2 => ?_, fun k h1 h2 => ?_, upd v (T i) (nI i), ⟨fun k hkk => ?_, fun g hgg => ?_, fun g hgg => ?_⟩, i4⟩)
            · rw [vset_n _ _ _ h2, vset_n _ _ _ h1]; exact i1 a h1 h2
            · rw [vset_n _ _ _ (by omega), vset_at, if_neg (by omega)]; exact i2 k (by omega) h2
            · rw [vset_n _ _ _ (by omega), vset_at]
              split
              · next z6 => rw [z6]; exact (if_neg z5).symm
              · next z6 => exact i3.1 k (by omega)
            · rw [vset_at, vset_n _ _ _ (by omega)]
              by_cases z6 : g = T i
              · rw [if_pos z6, z6, upd_s]
              · rw [if_neg z6, upd_n z6]; exact i3.2.1 g hgg
            · by_cases z6 : g = T i
              · rw [z6, upd_s]; exact Or.inr ⟨i, by omega, rfl⟩
              · rw [upd_n z6]; exact (i3.2.2 g hgg).imp id (fun ⟨k, hk, e⟩ => ⟨k, by omega, e⟩)
          · next zm => exact ⟨fun z9 => absurd rfl z9, fun _ => bad (fun q => zm q.1)⟩
    · intro n _ i hi hI hk
      obtain ⟨k, hk2⟩ : ∃ k, L - i = k + 1 := ⟨L - i - 1, by omega⟩
      rw [hk2] at hI
      have hI : (raG m T i && allB (raG m T) k (i + 1)) = allB (raG m T) L 0 := hI
      have ti := h8 i hi
      rw [wX1_rather_33, e2]
      refine br_f (nI_ge hi (by omega)) ⟨vp_in_nI (by omega) (by decide), ?_⟩
      rw [nI_clamp (show i < 2 ^ 31 by omega), et i hi, sb_and ti]
      have good : raG m T i = true → wX1_rather_79 x Q X (fun V x2 => wX1_rather_33 x Q X n V x2) V1 (nI i) := fun z => by
        unfold wX1_rather_79 wX1_rather_84
        refine e1_demand ?_
        rw [if_neg (by decide)]
        rw [z, Bool.true_and] at hI
        exact nm_r (nI_1 i) (hk () (by rw [show L - (i + 1) = k by omega]; exact hI))
      refine ⟨fun z => good (decide_eq_true (Or.inl (nI_inj (by omega) (by decide) z))), fun z => ⟨vp_in_nI (by omega) (by decide), ?_⟩⟩
      rw [ew.guests]
      refine s1_in (p_bz ?_)
      split
      · next z2 => exact good (decide_eq_true (Or.inr ((sb_guest hR ti).1 z2)))
      · next z2 =>
        unfold wX1_rather_84
        refine e1_demand ?_
        rw [if_pos rfl]
        have hb : raG m T i = false := decide_eq_false (fun q => q.elim (fun q => z (by rw [q]; rfl)) (fun q => z2 ((sb_guest hR ti).2 q)))
        rw [hb, Bool.false_and] at hI
        rw [← hI, Bool.and_false, if_neg (by decide)] at h0
        exact h0
theorem TsF.set78 {V1 c d : Nat → Nat → Int32} (h : TsF V1 t c) (hd : ∀ b, b ≠ t + 7 → b ≠ t + 8 → d b = c b) : TsF V1 t d :=
  ⟨fun b b1 b2 b3 => by rw [hd b (by omega) (by omega)]; exact h.1 b b1 b2 b3, fun j hj => by rw [hd t (by omega) (by omega)]; exact h.2.1 j hj, by rw [hd t (by omega) (by omega)]; exact h.2.2.1, by rw [hd t (by omega) (by omega)]; exact h.2.2.2⟩
theorem TsF.refl (h15 : jz (V t 15)) (h16 : jz (V t 16)) : TsF V t V := ⟨fun _ _ _ _ => rfl, fun _ _ => rfl, h15, h16⟩
theorem s6_rather (hR : RowOk (V (t + 1))) (h15 : jz (V t 15)) (h16 : jz (V t 16)) (hT : L ≤ 400) (h8 : ∀ i, i < L → T i < 256) (hC : TapeT V t L (fun i => nI (T i))) (hq : oTs (o_rather (V (t + 1)) T L) t (vset V t 8 0) Q) : wX6_rather t V Q := by
  obtain ⟨c1, c2⟩ := hC
  unfold wX6_rather
  refine nm_r c1 ?_
  have e1 : vset V t 8 0 (t + 1) = V (t + 1) := vt1
  have e5 : vset V t 8 0 (t + 5) = V (t + 5) := vset_n _ _ _ (by omega)
  rw [← e1] at hq hR
  rw [← e5] at c2
  have h15 : jz (vset V t 8 0 t 15) := by rw [vset_at]; exact h15
  have h16 : jz (vset V t 8 0 t 16) := by rw [vset_at]; exact h16
  clear e1 e5
  generalize vset V t 8 0 = V0 at *
  have hH8 := hR.H8; have g8 := hR.G8; have hH := hR.H; have hG := hR.G
  obtain ⟨m, hm⟩ : ∃ m, m = V0 (t + 1) := ⟨_, rfl⟩
  unfold o_rather at hq
  rw [← hm] at hR hH8 g8 hH hG hq ⊢
  have fin : ∀ b : Bool, b = (decide (L = nH m) && allB (raG m T) L 0) → wX6_rather_76 t Q V0 (nI L) (b2i (b = true)) := fun b hb => by
    unfold wX6_rather_76
    rw [← hb] at hq
    cases b with
    | false =>
      rw [if_neg (by decide)] at hq
      rw [b2i_f (by decide)]
      refine ⟨fun _ => ?_, fun z => absurd rfl z⟩
      unfold wX6_rather_86
      rw [vt0]
      exact br_f (by decide) (hq _ (TsF.refl (jzk0 (by decide) h15) (jzk0 (by decide) h16)) _)
    | true =>
      rw [if_pos rfl] at hq
      rw [b2i_t rfl]
      refine ⟨fun z => absurd z (by decide), fun _ => ?_⟩
      unfold wX6_rather_86
      rw [vt0]
      refine br_t (by decide) ?_
      have hq : ∀ V', TsF (vset V0 t 0 0) t V' → Q _ V' := hq
      have e1 : vset V0 t 0 0 (t + 1) = V0 (t + 1) := vt1
      have e5 : vset V0 t 0 0 (t + 5) = V0 (t + 5) := vset_n _ _ _ (by omega)
      have f0 : TsF (vset V0 t 0 0) t (vset V0 t 0 0) := TsF.refl (jzk0 (by decide) h15) (jzk0 (by decide) h16)
      rw [← e5] at c2
      rw [← e1] at hm
      clear e1 e5
      generalize vset V0 t 0 0 = V1 at *
      have hb2 := (Bool.and_eq_true _ _ ▸ hb.symm : decide (L = nH m) = true ∧ allB (raG m T) L 0 = true)
      have eL : L = nH m := of_decide_eq_true hb2.1
      have hg : ∀ k, k < L → T k = 255 ∨ T k < nG m := fun k hk => of_decide_eq_true (allB_at L 0 hb2.2 k (by omega) (by omega))
      refine ⟨_, vloop (fun n (b : Nat → Nat → Int32) i => wX6_rather_100 t Q n b (nI L) (nI i)) (fun i b => (∀ a, a ≠ t + 7 → a ≠ t + 8 → b a = V1 a) ∧ ∀ g, g < i → b (t + 8) g = -1) 8 ?_ ?_ 8 0 V1 (Nat.zero_add _) ⟨fun _ _ _ => rfl, fun g hg => absurd hg (by omega)⟩⟩
      · intro n b hI
        obtain ⟨i1, i2⟩ := hI
        show wX6_rather_100 t Q (n + 1) b (nI L) (nI 8)
        rw [wX6_rather_100]
        refine br_t (by decide) ?_
        refine ⟨_, vloop (fun n (b : Nat → Nat → Int32) i => wX6_rather_121 t Q n b (nI L) (nI i)) (fun i b => (∀ a, a ≠ t + 7 → a ≠ t + 8 → b a = V1 a) ∧ ∃ v, raI m T (b (t + 7)) (b (t + 8)) v i ∧ fo (raS m T) (L - i) i (some v) = fo (raS m T) L 0 (some (fun _ => -1))) L ?_ ?_ L 0 b (Nat.zero_add _) ⟨i1, fun _ => -1, ⟨fun k hk => absurd hk (by omega), i2, fun g _ => Or.inl rfl⟩, rfl⟩⟩
        · intro n b hI
          obtain ⟨i1, v, i3, i4⟩ := hI
          rw [fo_end] at i4
          have hq := hq b (f0.set78 i1)
          rw [← i4] at hq
          rw [wX6_rather_121]
          have er : b (t + 1) = m := by rw [i1 _ (by omega) (by omega), hm]
          refine br_t (Int32.le_refl _) (s6_rathers (u := uT T) (v := v) (by rw [er]; exact hR) (fun h hh => ?_) (fun g hgg => ?_) ?_)
          · rw [er] at hh ⊢
            refine ⟨i3.1 h (by omega), ?_⟩
            unfold uT
            by_cases z : T h = 255
            · exact Or.inl (if_pos z)
            · exact Or.inr ⟨T h, (hg h (by omega)).resolve_left z, if_neg z⟩
          · rw [er] at hgg ⊢
            exact ⟨i3.2.1 g (by omega), (i3.2.2 g (by omega)).imp id (fun ⟨k, hk, e⟩ => ⟨k, by omega, e⟩)⟩
          · rw [er]; exact hq
        · intro n b i hi hI hk
          obtain ⟨i1, v, i3, i4⟩ := hI
          rw [fo_pop hi] at i4
          have er : b (t + 1) = m := by rw [i1 _ (by omega) (by omega), hm]
          have ti := h8 i hi
          have eb : b (t + 5) i = nI (T i) := by rw [i1 _ (by omega) (by omega)]; exact c2 i hi
          rw [wX6_rather_121]
          refine br_f (nI_ge hi (by omega)) ⟨vp_in_nI (by omega) (by decide), ?_⟩
          rw [nI_clamp (show i < 2 ^ 31 by omega), eb]
          by_cases z5 : T i = 255
          · refine ⟨fun z => absurd (show nI (T i) = 255 by rw [z5]; rfl) z, fun _ => ?_⟩
            have es : raS m T i (some v) = some v := if_pos z5
            rw [es] at i4
            unfold wX6_rather_153
            rw [cl8 (show i < 8 by omega)]
            have e7 : vset b (t + 7) i (-1) (t + 7) i = -1 := by rw [vset_at, if_pos rfl]
            refine ⟨in8 (by omega), in8 (by omega), ?_⟩
            rw [e7]
            refine ⟨fun z => absurd rfl z, fun _ => nm_r (nI_1 i) (hk _ ⟨fun a h1 h2 => by rw [vset_n _ _ _ h1]; exact i1 a h1 h2, v, ⟨fun k hkk => ?_, fun g hgg => by rw [vset_n _ _ _ (by omega)]; exact i3.2.1 g hgg, fun g hgg => (i3.2.2 g hgg).imp id (fun ⟨k, hk, e⟩ => ⟨k, by omega, e⟩)⟩, i4⟩)⟩
            rw [vset_at]
            split
            · next z6 => rw [z6]; exact (if_pos z5).symm
            · next z6 => exact i3.1 k (by omega)
          · have tg := (hg i hi).resolve_left z5
            have n5 : ¬ nI (T i) = (255 : Int32) := fun z => z5 (nI_inj (by omega) (by decide) z)
            refine ⟨fun _ => ⟨vp_in_nI (by omega) (by decide), ?_⟩, fun z => absurd z n5⟩
            have es : raS m T i (some v) = if f_may m i (T i) ∧ v (T i) = -1 then some (upd v (T i) (nI i)) else none := if_neg z5
            rw [es] at i4
            unfold wX6_rather_153
            rw [cl8 (show i < 8 by omega)]
            have e7 : vset b (t + 7) i (nI (T i)) (t + 7) i = nI (T i) := by rw [vset_at, if_pos rfl]
            have e5 : vset b (t + 7) i (nI (T i)) (t + 5) i = nI (T i) := by rw [vset_n _ _ _ (by omega)]; exact eb
            have e8 : vset b (t + 7) i (nI (T i)) (t + 8) = b (t + 8) := vset_n _ _ _ (by omega)
            have f7 : ∀ a, a ≠ t + 7 → a ≠ t + 8 → vset b (t + 7) i (nI (T i)) a = V1 a := fun a h1 h2 => by rw [vset_n _ _ _ h1]; exact i1 a h1 h2
            have u7 : ∀ k, k < i + 1 → vset b (t + 7) i (nI (T i)) (t + 7) k = uT T k := fun k hkk => by
              rw [vset_at]
              split
              · next z6 => rw [z6]; exact (if_neg z5).symm
              · next z6 => exact i3.1 k (by omega)
            refine ⟨in8 (by omega), in8 (by omega), ?_⟩
            rw [e7, e5, e8, cl8 (show T i < 8 by omega), i3.2.1 (T i) (by omega)]
            have er7 : vset b (t + 7) i (nI (T i)) (t + 1) = m := by rw [vset_n _ _ _ (by omega)]; exact er
            generalize vset b (t + 7) i (nI (T i)) = b7 at *
            have bad : ¬ (f_may m i (T i) ∧ v (T i) = -1) → Q (-1) b7 := fun z => by
              rw [if_neg z, ra_none] at i4
              have := hq b7 (f0.set78 f7)
              rw [← i4] at this
              exact this
            refine ⟨fun _ => ⟨vp_in_nI (by omega) (by decide), in8 (by omega), fun z => bad (fun q => z q.2), fun z => ⟨vp_in_nI (by omega) (by decide), ?_⟩⟩, fun z => absurd z (nI_nm1 (by omega))⟩
            refine s6_mayMeet (by omega) (by omega) ?_
            rw [er7]
            refine p_bn ?_
            split
            · next zm =>
              rw [if_pos ⟨zm, z⟩] at i4
              refine ⟨vp_in_nI (by omega) (by decide), in8 (by omega), nm_r (nI_1 i) (hk _ ⟨fun a h1 h2 => ?_, upd v (T i) (nI i), ⟨fun k hkk => ?_, fun g hgg => ?_, fun g hgg => ?_⟩, i4⟩)⟩
              · rw [vset_n _ _ _ h2]; exact f7 a h1 h2
              · rw [vset_n _ _ _ (by omega)]; exact u7 k hkk
              · rw [vset_at, e8]
                by_cases z6 : g = T i
                · rw [if_pos z6, z6, upd_s]
                · rw [if_neg z6, upd_n z6]; exact i3.2.1 g hgg
              · by_cases z6 : g = T i
                · rw [z6, upd_s]; exact Or.inr ⟨i, by omega, rfl⟩
                · rw [upd_n z6]; exact (i3.2.2 g hgg).imp id (fun ⟨k, hk, e⟩ => ⟨k, by omega, e⟩)
            · next zm => exact bad (fun q => zm q.1)
      · intro n b i hi hI hk
        obtain ⟨i1, i2⟩ := hI
        show wX6_rather_100 t Q (n + 1) b (nI L) (nI i)
        rw [wX6_rather_100, cl8 hi]
        refine br_f (nI_ge hi (by decide)) ⟨in8 hi, nm_r (nI_1 i) (hk _ ⟨fun a h1 h2 => by rw [vset_n _ _ _ h2]; exact i1 a h1 h2, fun g hg => ?_⟩)⟩
        rw [vset_at]
        split
        · rfl
        · exact i2 g (by omega)
  have key : ∀ b : Bool, b = decide (L = nH m) → ∃ f9, wX6_rather_28 t Q f9 V0 (nI L) (b2i (b = true)) 0 := fun b hb => by
    refine flag_loop (fun n b i => wX6_rather_28 t Q n V0 (nI L) (b2i (b = true)) (nI i)) (raG m T) (fun b => wX6_rather_76 t Q V0 (nI L) (b2i (b = true))) L ?_ ?_ ?_ L 0 b (Nat.zero_add _) (fin _ (by rw [hb]))
    · intro n b hP
      rw [wX6_rather_28]
      exact br_t (Int32.le_refl _) hP
    · intro n i hi hP
      rw [wX6_rather_28]
      rw [b2i_f (by decide)] at hP ⊢
      exact br_f (nI_ge hi (by omega)) ⟨fun _ => hP, fun z => absurd rfl z⟩
    · intro n i hi hk
      have ti := h8 i hi
      rw [wX6_rather_28, b2i_t rfl, ← hm, hG, nI_clamp (show i < 2 ^ 31 by omega), c2 i hi]
      refine br_f (nI_ge hi (by omega)) ⟨fun z => absurd z (by decide), fun _ => ⟨vp_in_nI (by omega) (by decide), fun z => ?_, fun z => ⟨vp_in_nI (by omega) (by decide), fun z2 => ?_, fun z2 => ?_⟩⟩⟩
      · have z := (nI_ltI (by omega) (by omega)).1 z
        rw [show raG m T i = true from decide_eq_true (Or.inr z), b2i_t rfl] at hk
        exact nm_r (nI_1 i) hk
      · rw [show raG m T i = false from decide_eq_false (fun q => q.elim (fun q => z2 (by show nI (T i) = 255; rw [q]; rfl)) (fun q => z ((nI_ltI (by omega) (by omega)).2 q))), b2i_f (by decide)] at hk
        exact nm_r (nI_1 i) hk
      · rw [show raG m T i = true from decide_eq_true (Or.inl (nI_inj (by omega) (by decide) z2)), b2i_t rfl] at hk
        exact nm_r (nI_1 i) hk
  rw [hH]
  refine ⟨fun z => ?_, fun z => ?_⟩
  · have := key false (decide_eq_false (fun q => z (by rw [q]))).symm
    rw [b2i_f (by decide)] at this
    exact this
  · have := key true (decide_eq_true (nI_inj (by omega) (by omega) z)).symm
    rw [b2i_t rfl] at this
    exact this
end RA
