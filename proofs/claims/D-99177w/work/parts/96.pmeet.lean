/-! ===== PURE: lets, joy, meetings, taboo ===== -/
theorem fo_pop {α : Type} {step : Nat → α → α} {i e : Nat} {a : α} (h : i < e) : fo step (e - i) i a = fo step (e - (i + 1)) (i + 1) (step i a) := by
  obtain ⟨k, hk⟩ : ∃ k, e - i = k + 1 := ⟨e - i - 1, by omega⟩
  rw [hk, show e - (i + 1) = k by omega]
  rfl
theorem fo_end {α : Type} {step : Nat → α → α} {e : Nat} {a : α} : fo step (e - e) e a = a := by rw [Nat.sub_self]; rfl
/-- scratch of the component: the scene -/
def CF (x : Nat) (V V' : Nat → Nat → Int32) : Prop := ∀ b, b ≠ x + 111 → V' b = V b
theorem CF.refl {x : Nat} {V : Nat → Nat → Int32} : CF x V V := fun _ _ => rfl
theorem CF.trans {x : Nat} {V V1 V2 : Nat → Nat → Int32} (h : CF x V V1) (h2 : CF x V1 V2) : CF x V V2 := fun b hb => (h2 b hb).trans (h b hb)
theorem CF.W {x w : Nat} {V V' : Nat → Nat → Int32} {m : Nat → Int32} (h : CF x V V') (hW : WRel V w m) (hd : w + 36 ≤ x + 111 ∨ x + 112 ≤ w) (h8 : nH m ≤ 8) (g8 : nG m ≤ 8) : WRel V' w m := hW.frame (fun a a1 a2 => h a (by omega)) h8 g8
def gOf (m : Nat → Int32) (h q : Nat) : Nat := (m (195 + 8 * h + q)).toNatClampNeg
def mN (m : Nat → Int32) (law : Option (List Ln)) (h q : Nat) (n : Int32) : Int32 := if f_would m law h q = true then n + 1 else n
def mJ (m : Nat → Int32) (law : Option (List Ln)) (h q : Nat) (n : Int32) : Int32 := if f_would m law h q = true then n + f_joy m law h (gOf m h q) q else n
def mT (m : Nat → Int32) (law : Option (List Ln)) (h q : Nat) (n : Int32) : Int32 := if ¬ m (195 + 8 * h + q) = -1 ∧ ¬ f_would m law h q = true then n + 1 else n
def f_all (st : Nat → Nat → Int32 → Int32) (m : Nat → Int32) : Int32 := fo (fun h n => fo (st h) 8 0 n) (nH m) 0 0
def f_meetIn (m : Nat → Int32) (law : Option (List Ln)) (h : Nat) : Int32 := fo (fun q a => if f_would m law h q = true then a ||| ((1 : Int32) <<< (nI q &&& 31)) else a) 8 0 0
def o_lets (m : Nat → Int32) (law : Option (List Ln)) (a b q : Int32) : Ot := if allP m a b q then .inl (b2i (f_lets m law a.toNatClampNeg b.toNatClampNeg q.toNatClampNeg = true)) else .inr (xIo, 1)
def o_joy (m : Nat → Int32) (law : Option (List Ln)) (a b q : Int32) : Ot := if allP m a b q then .inl (f_joy m law a.toNatClampNeg b.toNatClampNeg q.toNatClampNeg) else .inr (xIo, 1)
theorem would_g {m : Nat → Int32} {law : Option (List Ln)} {h q : Nat} (hR : RowOk m) (hh : h < 8) (hq : q < 8) (w : f_would m law h q = true) : gOf m h q < nG m ∧ m (195 + 8 * h + q) = nI (gOf m h q) := by
  have h1 := (of_decide_eq_true w).1
  obtain ⟨g, hg, hge⟩ := (hR.2.2.2.2.1 h q hh hq).resolve_left h1
  have hcl : gOf m h q = g := by
    unfold gOf
    rw [hge]
    exact nI_clamp (by have := hR.G8; omega)
  rw [hcl]
  exact ⟨hg, hge⟩
section ME
variable {sh : List jH} {V : Nat → Nat → Int32} {R : Nat → Nat → Option Nat} {x t : Nat} {m : Nat → Int32} {law : Option (List Ln)} {Q : Int32 → (Nat → Nat → Int32) → Prop} {X : String → (Nat → Nat → Int32) → Prop}
theorem s1_lets {a b q : Int32} (hX : jReg shX1 sh x) (hW : WRel V (x + 1) m) (hR : RowOk m) (hL : LawSh sh (R (x + 1) 20) law) (hq : ∀ V', CF x V V' → oC (o_lets m law a b q) (fun r => Q r V') (fun e => X e V')) : wX1_lets x sh R V a b q Q X := by
  unfold o_lets at hq
  refine e1_allAt hW ?_
  split
  · next c =>
    rw [if_pos c] at hq
    obtain ⟨i, hi, hi8, rfl⟩ := hR.host c.1
    obtain ⟨j, hj, hj8, rfl⟩ := hR.guest c.2.1
    obtain ⟨k, hk, rfl⟩ := quarter_nat c.2.2
    rw [cl8 hi8, cl8 hj8, cl8 hk] at hq
    exact s1_letsIn hX hW hR hL hi hj hk (Or.inl (by omega)) (fun V' f => ⟨jz_b, hq V' f⟩)
  · next c =>
    rw [if_neg c] at hq
    exact hq V CF.refl
theorem s1_joy {a b q : Int32} (hX : jReg shX1 sh x) (hW : WRel V (x + 1) m) (hR : RowOk m) (hL : LawSh sh (R (x + 1) 20) law) (hq : ∀ V', CF x V V' → oC (o_joy m law a b q) (fun r => Q r V') (fun e => X e V')) : wX1_joy x sh R V a b q Q X := by
  unfold o_joy at hq
  refine e1_allAt hW ?_
  split
  · next c =>
    rw [if_pos c] at hq
    obtain ⟨i, hi, hi8, rfl⟩ := hR.host c.1
    obtain ⟨j, hj, hj8, rfl⟩ := hR.guest c.2.1
    obtain ⟨k, hk, rfl⟩ := quarter_nat c.2.2
    rw [cl8 hi8, cl8 hj8, cl8 hk] at hq
    exact s1_joyBy hX hW hR hL hi hj hk (Or.inl (by omega)) (fun V' f => hq V' f)
  · next c =>
    rw [if_neg c] at hq
    exact hq V CF.refl
theorem s6_lets {a b q : Int32} (hC : ConSh sh) (hR : RowOk (V (t + 1))) (hL : LawT (V (t + 1)) law) (h15 : jz (V t 15)) (h16 : jz (V t 16)) (hq : ∀ V', AskF (vset V t 0 0) t V' → oC (o_lets (V (t + 1)) law a b q) (fun r => Q r V') (fun _ => ∀ r, Q r (vset V t 0 1))) : wX6_lets t sh R V a b q Q := by
  unfold o_lets at hq
  have e1 : vset V t 0 0 (t + 1) = V (t + 1) := vt1
  refine s6_areThere ?_
  split
  · next c =>
    rw [if_pos c] at hq
    obtain ⟨i, hi, hi8, rfl⟩ := hR.host c.1
    obtain ⟨j, hj, hj8, rfl⟩ := hR.guest c.2.1
    obtain ⟨k, hk, rfl⟩ := quarter_nat c.2.2
    rw [cl8 hi8, cl8 hj8, cl8 hk] at hq
    rw [← e1] at hR hL hq
    refine br_f (by decide) (s6_isLet hC hR hL (by rw [vset_at]; exact h16) hi8 hj8 hk (fun V' hV _ => ?_))
    have h9 : Q (b2i (f_lets (vset V t 0 0 (t + 1)) law i j k = true)) V' := hq V' hV
    refine ⟨fun z => ?_, fun z => ?_⟩
    · rw [z] at h9; exact h9
    · rw [b2i_t (Classical.byContradiction fun w => z (b2i_f w))] at h9; exact h9
  · next c =>
    rw [if_neg c] at hq
    exact br_t rfl (hq (vset V t 0 0) ⟨fun _ _ _ => rfl, fun _ _ => rfl, by rw [vset_at]; exact h15, by rw [vset_at]; exact h16⟩ 0)
theorem s6_joy {a b q : Int32} (hC : ConSh sh) (hR : RowOk (V (t + 1))) (hL : LawT (V (t + 1)) law) (h15 : jz (V t 15)) (h16 : jz (V t 16)) (hq : ∀ V', AskF (vset V t 0 0) t V' → oC (o_joy (V (t + 1)) law a b q) (fun r => Q r V') (fun _ => ∀ r, Q r (vset V t 0 1))) : wX6_joy t sh R V a b q Q := by
  unfold o_joy at hq
  have e1 : vset V t 0 0 (t + 1) = V (t + 1) := vt1
  refine s6_areThere ?_
  split
  · next c =>
    rw [if_pos c] at hq
    obtain ⟨i, hi, hi8, rfl⟩ := hR.host c.1
    obtain ⟨j, hj, hj8, rfl⟩ := hR.guest c.2.1
    obtain ⟨k, hk, rfl⟩ := quarter_nat c.2.2
    rw [cl8 hi8, cl8 hj8, cl8 hk] at hq
    rw [← e1] at hR hL hq
    exact br_f (by decide) (s6_joyOf hC hR hL (by rw [vset_at]; exact h16) hi8 hj8 hk (fun V' hV => hq V' hV))
  · next c =>
    rw [if_neg c] at hq
    exact br_t rfl (hq (vset V t 0 0) ⟨fun _ _ _ => rfl, fun _ _ => rfl, by rw [vset_at]; exact h15, by rw [vset_at]; exact h16⟩ 0)
theorem s1_meetings {a : Int32} (hX : jReg shX1 sh x) (hW : WRel V (x + 1) m) (hR : RowOk m) (hL : LawSh sh (R (x + 1) 20) law) (hq : ∀ V', CF x V V' → Q (if a = 0 then f_all (mN m law) m else f_all (mJ m law) m) V') : wX1_meetings x sh R V a Q := by
  have hH := hR.H; have h8 := hR.H8; have g8 := hR.G8
  have dd : ∀ w, w = x + 1 → w + 36 ≤ x + 111 ∨ x + 112 ≤ w := fun w e => by omega
  refine ⟨_, vloop (fun n (b : (Nat → Nat → Int32) × Int32 × Int32) i => wX1_meetings_7 x sh R a Q n b.1 b.2.1 b.2.2 (nI i)) (fun i b => CF x V b.1 ∧ fo (fun h n => fo (mN m law h) 8 0 n) (nH m - i) i b.2.1 = f_all (mN m law) m ∧ fo (fun h n => fo (mJ m law h) 8 0 n) (nH m - i) i b.2.2 = f_all (mJ m law) m) (nH m) ?_ ?_ (nH m) 0 (V, 0, 0) (Nat.zero_add _) ⟨CF.refl, rfl, rfl⟩⟩
  · intro n b hI
    obtain ⟨h1, h2, h3⟩ := hI
    show wX1_meetings_7 x sh R a Q (n + 1) b.1 b.2.1 b.2.2 (nI (nH m))
    rw [fo_end] at h2 h3
    rw [wX1_meetings_7, (h1.W hW (dd _ rfl) h8 g8).hosts, h2, h3]
    have h9 := hq b.1 h1
    refine br_t (by rw [hH]; exact Int32.le_refl _) ⟨fun z => ?_, fun z => ?_⟩
    · rw [if_pos z] at h9; exact h9
    · rw [if_neg z] at h9; exact h9
  · intro n b h hh hI hk
    obtain ⟨h1, h2, h3⟩ := hI
    rw [fo_pop hh] at h2 h3
    show wX1_meetings_7 x sh R a Q (n + 1) b.1 b.2.1 b.2.2 (nI h)
    rw [wX1_meetings_7, (h1.W hW (dd _ rfl) h8 g8).hosts]
    refine br_f (by rw [hH]; exact nI_ge hh (by omega)) ⟨_, vloop (fun n2 (b : (Nat → Nat → Int32) × Int32 × Int32) i => wX1_meetings_22 x sh R a Q (fun V x2 x3 x4 => wX1_meetings_7 x sh R a Q n V x2 x3 x4) n2 b.1 b.2.1 b.2.2 (nI h) (nI i)) (fun i b2 => CF x V b2.1 ∧ fo (mN m law h) (8 - i) i b2.2.1 = fo (mN m law h) 8 0 b.2.1 ∧ fo (mJ m law h) (8 - i) i b2.2.2 = fo (mJ m law h) 8 0 b.2.2) 8 ?_ ?_ 8 0 b (Nat.zero_add _) ⟨h1, rfl, rfl⟩⟩
    · intro n2 b2 hI2
      obtain ⟨i1, i2, i3⟩ := hI2
      show wX1_meetings_22 x sh R a Q (fun V x2 x3 x4 => wX1_meetings_7 x sh R a Q n V x2 x3 x4) (n2 + 1) b2.1 b2.2.1 b2.2.2 (nI h) (nI 8)
      rw [wX1_meetings_22]
      rw [fo_end] at i2 i3
      refine br_t (by decide) (nm_r (nI_1 h) (hk (b2.1, b2.2.1, b2.2.2) ⟨i1, ?_, ?_⟩))
      · rw [← h2, ← i2]
      · rw [← h3, ← i3]
    · intro n2 b2 q hq8 hI2 hk2
      obtain ⟨i1, i2, i3⟩ := hI2
      rw [fo_pop hq8] at i2 i3
      show wX1_meetings_22 x sh R a Q (fun V x2 x3 x4 => wX1_meetings_7 x sh R a Q n V x2 x3 x4) (n2 + 1) b2.1 b2.2.1 b2.2.2 (nI h) (nI q)
      rw [wX1_meetings_22]
      have hW2 := i1.W hW (dd _ rfl) h8 g8
      refine br_f (nI_ge hq8 (by decide)) (s1_wouldMeet hX hW2 hR hL hh hq8 (dd _ rfl) (fun V' f => p_bz ?_))
      have f2 : CF x V V' := i1.trans f
      split
      · next w =>
        have hg := would_g hR (by omega) hq8 w
        have hW3 := f2.W hW (dd _ rfl) h8 g8
        refine nm_e ⟨in8 (by omega), in8 hq8, ?_⟩
        rw [cl8 (by omega), cl8 hq8, hW3.book hh hq8, hg.2]
        refine s1_joyBy hX hW3 hR hL hh hg.1 hq8 (dd _ rfl) (fun V2 f3 => nm_e (nm_r (nI_1 q) (hk2 (V2, _, _) ⟨f2.trans f3, ?_, ?_⟩)))
        · rw [← i2]
          unfold mN
          rw [if_pos w]
        · rw [← i3]
          unfold mJ
          rw [if_pos w]
      · next w =>
        refine nm_r (nI_1 q) (hk2 (V', _, _) ⟨f2, ?_, ?_⟩)
        · rw [← i2]
          unfold mN
          rw [if_neg w]
        · rw [← i3]
          unfold mJ
          rw [if_neg w]
end ME
