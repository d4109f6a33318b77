/-! ===== PURE: the component asks the law ===== -/
/-- the reference o stands for the law -/
def LawSh (sh : List jH) (o : Option Nat) (law : Option (List Ln)) : Prop := match law with
  | none => o = none
  | some ls => ∃ k, o = some k ∧ ∀ V R, LawF k ls (mk sh V R)
section AK
variable {sh : List jH} {V : Nat → Nat → Int32} {R : Nat → Nat → Option Nat} {x w h g q : Nat} {m : Nat → Int32} {law : Option (List Ln)} {Q : Int32 → (Nat → Nat → Int32) → Prop} {P : (Nat → Nat → Int32) → Prop}
theorem WRel.lonely (hW : WRel V w m) (hh : h < nH m) : V (w + 4) h = m (14 + 4 * h) := (hW.2.1 h hh).2.2.2
theorem WRel.week (hW : WRel V w m) : V w 6 = m 6 := hW.1.2.2.2.2.2.2.1
theorem s1_sceneOf (hX : jReg shX1 sh x) (hW : WRel V w m) (hR : RowOk m) (hh : h < nH m) (hg : g < nG m) (hq8 : q < 8) (hd : w + 36 ≤ x + 111 ∨ x + 112 ≤ w) (hq : ∀ V', (∀ b, b ≠ x + 111 → V' b = V b) → (∀ R, SceneAt (mk sh V' R) (x + 111) (Fsc m h g q)) → P V') : wX1_sceneOf x w V (nI h) (nI g) (nI q) P := by
  have h8 := hR.H8; have g8 := hR.G8
  have row : ∀ (V0 : Nat → Nat → Int32) (i : Nat) (y : Int32) (b : Nat), b ≠ x + 111 → vset V0 (x + 111) i y b = V0 b := fun V0 i y b hb => vset_n _ _ _ hb
  have hs := hX.sub 111 1 (L2 := shX4) rfl
  refine ⟨in8 (by omega), nm_e ⟨in8 (by omega), in8 (by omega), nm_e ⟨in8 (by omega), in8 (by omega), nm_e (nm_e ?_)⟩⟩⟩
  simp only [cl8 (show h < 8 by omega), cl8 (show g < 8 by omega), cl8 hq8]
  rw [row _ _ _ (w + 4) (by omega), row _ _ _ (w + 4) (by omega), row _ _ _ (w + 4) (by omega), hW.lonely hh]
  rw [row _ _ _ (w + 8 + 1 + h) (by omega), row _ _ _ (w + 8 + 1 + h) (by omega), row _ _ _ (w + 8 + 1 + h) (by omega), row _ _ _ (w + 8 + 1 + h) (by omega), hW.like hh hg]
  rw [row _ _ _ (w + 17 + 1 + g) (by omega), row _ _ _ (w + 17 + 1 + g) (by omega), row _ _ _ (w + 17 + 1 + g) (by omega), row _ _ _ (w + 17 + 1 + g) (by omega), row _ _ _ (w + 17 + 1 + g) (by omega), hW.love hh hg]
  rw [row _ _ _ w (by omega), row _ _ _ w (by omega), row _ _ _ w (by omega), row _ _ _ w (by omega), row _ _ _ w (by omega), row _ _ _ w (by omega), hW.week]
  generalize hV1 : vset (vset (vset (vset (vset (vset (vset V (x + 111) 0 (nI h)) (x + 111) 1 (nI g)) (x + 111) 2 (nI q)) (x + 111) 3 (m (14 + 4 * h))) (x + 111) 4 (m (67 + 8 * h + g))) (x + 111) 5 (m (131 + 8 * g + h))) (x + 111) 6 (m 6) = V1
  have f1 : ∀ b, b ≠ x + 111 → V1 b = V b := fun b hb => by rw [← hV1, row _ _ _ b hb, row _ _ _ b hb, row _ _ _ b hb, row _ _ _ b hb, row _ _ _ b hb, row _ _ _ b hb, row _ _ _ b hb]
  have v1 : ∀ j, V1 (x + 111) j = if j = 6 then m 6 else if j = 5 then m (131 + 8 * g + h) else if j = 4 then m (67 + 8 * h + g) else if j = 3 then m (14 + 4 * h) else if j = 2 then nI q else if j = 1 then nI g else if j = 0 then nI h else V (x + 111) j := fun j => by rw [← hV1, vset_at, vset_at, vset_at, vset_at, vset_at, vset_at, vset_at]
  have hW1 : WRel V1 w m := hW.frame (fun a a1 a2 => f1 a (by omega)) h8 g8
  refine s2_isMarked hW1 g8 hg ⟨jz_b, in8 (by omega), in8 hq8, ?_⟩
  rw [row _ _ _ (w + 26 + 1 + h) (by omega), f1 (w + 26 + 1 + h) (by omega), hW.book hh hq8]
  have fin : ∀ s1, s1 = b2i (m (195 + 8 * h + q) = nI g) → wX1_sceneOf_113 x w (nI h) (nI g) (nI q) P (vset V1 (x + 111) 7 (b2i (f_marked m (m (45 + 3 * g))))) s1 := by
    intro s1 hs1
    refine ⟨by rw [hs1]; exact jz_b, hq _ (fun b hb => by rw [row _ _ _ b hb, row _ _ _ b hb, f1 b hb]) (fun R => ?_)⟩
    have hc := mk_at (V := vset (vset V1 (x + 111) 7 (b2i (f_marked m (m (45 + 3 * g))))) (x + 111) 8 s1) (R := R) (hs.2 0 _ rfl)
    refine ⟨_, hc, by have := hX.1; omega, fun i hi => ?_, jz_b, jz_b⟩
    have vj : ∀ j, vset (vset V1 (x + 111) 7 (b2i (f_marked m (m (45 + 3 * g))))) (x + 111) 8 s1 (x + 111) j = if j = 8 then s1 else if j = 7 then b2i (f_marked m (m (45 + 3 * g))) else V1 (x + 111) j := fun j => by rw [vset_at, vset_at]
    match i, hi with
    | 0, _ => exact congrArg (fun z => some (Value.int z)) ((vj 0).trans (v1 0))
    | 1, _ => exact congrArg (fun z => some (Value.int z)) ((vj 1).trans (v1 1))
    | 2, _ => exact congrArg (fun z => some (Value.int z)) ((vj 2).trans (v1 2))
    | 3, _ => exact congrArg (fun z => some (Value.int z)) ((vj 3).trans (v1 3))
    | 4, _ => exact congrArg (fun z => some (Value.int z)) ((vj 4).trans (v1 4))
    | 5, _ => exact congrArg (fun z => some (Value.int z)) ((vj 5).trans (v1 5))
    | 6, _ => exact congrArg (fun z => some (Value.int z)) ((vj 6).trans (v1 6))
    | 7, _ => exact congrArg (fun z => some (Value.int z)) (vj 7)
    | 8, _ => exact congrArg (fun z => some (Value.int z)) ((vj 8).trans hs1)
  exact ⟨fun z => fin 0 (b2i_f z).symm, fun z => fin 1 (b2i_t z).symm⟩
theorem joy_none (hR : RowOk m) (hh : h < 8) (hg : g < 8) : f_joy m none h g q = m (67 + 8 * h + g) := by
  obtain ⟨r, hr, e⟩ := hR.2.1 (8 * h + g) (by omega)
  rw [show 67 + (8 * h + g) = 67 + 8 * h + g by omega] at e
  unfold f_joy f_ask
  rw [show m (67 + 8 * h + g) + (0 : Int32) = m (67 + 8 * h + g) by simp, e]
  exact if_pos (nI_pos' (by omega))
theorem joy_some {ls : List Ln} : f_joy m (some ls) h g q = joyE (Fsc m h g q) ls := by
  unfold f_joy joyE f_ask
  show (if 0 ≤ m (67 + 8 * h + g) + (lsE (Fsc m h g q) ls (0, 0, 0)).1 then m (67 + 8 * h + g) + (lsE (Fsc m h g q) ls (0, 0, 0)).1 else 0) = (if 0 < m (67 + 8 * h + g) + (lsE (Fsc m h g q) ls (0, 0, 0)).1 then m (67 + 8 * h + g) + (lsE (Fsc m h g q) ls (0, 0, 0)).1 else 0)
  generalize m (67 + 8 * h + g) + (lsE (Fsc m h g q) ls (0, 0, 0)).1 = v
  by_cases z : 0 < v
  · rw [if_pos z, if_pos (Int32.le_of_lt z)]
  · rw [if_neg z]
    split
    · next w => exact Int32.le_antisymm (Int32.not_lt.mp z) w
    · rfl
theorem let_some {ls : List Ln} : f_lets m (some ls) h g q = letE (Fsc m h g q) ls := by
  unfold f_lets letE f_ask
  show (if (lsE (Fsc m h g q) ls (0, 0, 0)).2.1 = 0 then decide (f_marked m (m (45 + 3 * g))) else decide (¬ (lsE (Fsc m h g q) ls (0, 0, 0)).2.2 = 0)) = (if (lsE (Fsc m h g q) ls (0, 0, 0)).2.1 = 0 then decide (¬ b2i (f_marked m (m (45 + 3 * g))) = 0) else decide (¬ (lsE (Fsc m h g q) ls (0, 0, 0)).2.2 = 0))
  split
  · unfold b2i
    by_cases z : f_marked m (m (45 + 3 * g))
    · rw [if_pos z, decide_eq_true z]; rfl
    · rw [if_neg z, decide_eq_false z]; rfl
  · rfl
theorem let_none : f_lets m none h g q = decide (f_marked m (m (45 + 3 * g))) := rfl
theorem s1_joyBy (hX : jReg shX1 sh x) (hW : WRel V w m) (hR : RowOk m) (hL : LawSh sh (R w 20) law) (hh : h < nH m) (hg : g < nG m) (hq8 : q < 8) (hd : w + 36 ≤ x + 111 ∨ x + 112 ≤ w) (hq : ∀ V', (∀ b, b ≠ x + 111 → V' b = V b) → Q (f_joy m law h g q) V') : wX1_joyBy x w sh R V (nI h) (nI g) (nI q) Q := by
  have h8 := hR.H8; have g8 := hR.G8
  refine nm_e ⟨fun z => ⟨in8 (by omega), in8 (by omega), ?_⟩, fun b hb => nm_e ?_⟩
  · rw [cl8 (by omega), cl8 (by omega), hW.like hh hg]
    rcases law with _ | ls
    · have := hq V (fun _ _ => rfl)
      rw [joy_none hR (by omega) (by omega)] at this
      exact this
    · obtain ⟨k, hk, -⟩ := hL
      rw [z] at hk; cases hk
  · rcases law with _ | ls
    · have : R w 20 = none := hL
      rw [hb] at this; cases this
    · obtain ⟨k, hk, hF⟩ := hL
      refine s1_sceneOf hX hW hR hh hg hq8 hd (fun V' f hS => ⟨k, hk, ?_⟩)
      obtain ⟨l1, hh9, l2, l3, l4, l5⟩ := hF V' R
      have h9 := hq V' f
      rw [joy_some] at h9
      exact ⟨_, l2, (l5 _ _ (hS R)).1 _ h9⟩
theorem s1_letsIn (hX : jReg shX1 sh x) (hW : WRel V w m) (hR : RowOk m) (hL : LawSh sh (R w 20) law) (hh : h < nH m) (hg : g < nG m) (hq8 : q < 8) (hd : w + 36 ≤ x + 111 ∨ x + 112 ≤ w) (hq : ∀ V', (∀ b, b ≠ x + 111 → V' b = V b) → Q (b2i (f_lets m law h g q = true)) V') : wX1_letsIn x w sh R V (nI h) (nI g) (nI q) Q := by
  have h8 := hR.H8; have g8 := hR.G8
  refine nm_e ⟨fun z => ?_, fun b hb => nm_e ?_⟩
  · rcases law with _ | ls
    · have h9 := hq V (fun _ _ => rfl)
      rw [let_none, show b2i (decide (f_marked m (m (45 + 3 * g))) = true) = b2i (f_marked m (m (45 + 3 * g))) by unfold b2i; simp] at h9
      exact s2_isMarked hW g8 hg ⟨jz_b, h9⟩
    · obtain ⟨k, hk, -⟩ := hL
      rw [z] at hk; cases hk
  · rcases law with _ | ls
    · have : R w 20 = none := hL
      rw [hb] at this; cases this
    · obtain ⟨k, hk, hF⟩ := hL
      refine s1_sceneOf hX hW hR hh hg hq8 hd (fun V' f hS => ⟨k, hk, ?_⟩)
      obtain ⟨l1, hh9, l2, l3, l4, l5⟩ := hF V' R
      have h9 := hq V' f
      rw [let_some] at h9
      exact ⟨_, l2, (l5 _ _ (hS R)).2 _ ⟨jz_b, h9⟩⟩
theorem s1_wouldMeet (hX : jReg shX1 sh x) (hW : WRel V w m) (hR : RowOk m) (hL : LawSh sh (R w 20) law) (hh : h < nH m) (hq8 : q < 8) (hd : w + 36 ≤ x + 111 ∨ x + 112 ≤ w) (hq : ∀ V', (∀ b, b ≠ x + 111 → V' b = V b) → Q (b2i (f_would m law h q = true)) V') : wX1_wouldMeet x w sh R V (nI h) (nI q) Q := by
  have h8 := hR.H8; have g8 := hR.G8
  have no : ∀ V', ¬ f_would m law h q = true → (∀ b, b ≠ x + 111 → V' b = V b) → Q 0 V' := fun V' z hV => by
    have := hq V' hV
    rw [b2i_f z] at this
    exact this
  refine ⟨in8 (by omega), in8 hq8, ?_⟩
  rw [cl8 (by omega), cl8 hq8, hW.book hh hq8]
  refine nm_e ⟨fun z => no V (fun w2 => (of_decide_eq_true w2).1 z) (fun _ _ => rfl), fun z => ?_⟩
  obtain ⟨g, hg, hge⟩ := (hR.2.2.2.2.1 h q (by omega) hq8).resolve_left z
  have hcl : (m (195 + 8 * h + q)).toNatClampNeg = g := by rw [hge]; exact nI_clamp (by omega)
  rw [hge]
  refine s2_can hW h8 g8 hh hg (p_bz ?_)
  split
  · next wc =>
    refine s1_letsIn hX hW hR hL hh hg hq8 hd (fun V' hV => p_bz ?_)
    split
    · next wl =>
      have hf : f_would m law h q = true := decide_eq_true ⟨z, by rw [hcl]; exact wc, by rw [hcl]; exact wl⟩
      have := hq V' hV
      rw [b2i_t hf] at this
      exact this
    · next wl => exact no V' (fun w2 => wl (by have := (of_decide_eq_true w2).2.2; rw [hcl] at this; exact this)) hV
  · next wc => exact no V (fun w2 => wc (by have := (of_decide_eq_true w2).2.1; rw [hcl] at this; exact this)) (fun _ _ => rfl)
end AK
