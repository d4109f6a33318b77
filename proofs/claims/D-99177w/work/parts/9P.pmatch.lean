/-! ===== PURE: put together so that no two would rather: what the best ways tell ===== -/
/-- r: whom of B one of A would rather; -1: nobody -/
def prefOk (A B : Nat) (r : Nat → Nat → Int32 → Bool) : Prop :=
  (∀ a b c, a < A → b < B → c < B → r a b (nI c) = true → r a b (-1) = true) ∧
  (∀ a b c, a < A → b < B → c < B → r a b (nI c) = true → ¬ r a c (nI b) = true) ∧
  (∀ a b c d, a < A → b < B → c < B → d < B → r a b (nI c) = true → r a c (nI d) = true → r a b (nI d) = true) ∧
  (∀ a b c, a < A → b < B → c < B → b ≠ c → r a b (-1) = true → r a c (-1) = true → r a b (nI c) = true ∨ r a c (nI b) = true)
/-- put together by u and v so that no two would rather -/
def Stab (A B : Nat) (r1 r2 : Nat → Nat → Int32 → Bool) (u v : Nat → Int32) : Prop :=
  (∀ a, a < A → u a = -1 ∨ ∃ b, b < B ∧ u a = nI b ∧ v b = nI a ∧ r1 a b (-1) = true) ∧
  (∀ b, b < B → v b = -1 ∨ ∃ a, a < A ∧ v b = nI a ∧ u a = nI b) ∧
  (∀ a b, a < A → b < B → r1 a b (u a) = true → r2 b a (v b) = true → False)
section MT
variable {A B : Nat} {r1 r2 r : Nat → Nat → Int32 → Bool} {u v : Nat → Int32} {s : GS}
theorem inS_orN {S g k : Nat} : inS (S ||| 2 ^ g) k ↔ inS S k ∨ k = g := by
  rw [inS_bit, inS_bit, Nat.testBit_or, Nat.testBit_two_pow]
  simp only [Bool.or_eq_true, decide_eq_true_iff]
  exact ⟨fun z => z.imp id Eq.symm, fun z => z.imp id Eq.symm⟩
theorem pref_irr (hP : prefOk A B r) {a b : Nat} (ha : a < A) (hb : b < B) : ¬ r a b (nI b) = true := fun z => hP.2.1 a b b ha hb hb z z
theorem gsBest_max {N a : Nat} (hP : prefOk A B r) (hB : B ≤ 8) (ha : a < A) : (gsBest r B a N = -1 ∧ ∀ b, b < B → ¬ inS N b → ¬ r a b (-1) = true) ∨ ∃ b, b < B ∧ gsBest r B a N = nI b ∧ ¬ inS N b ∧ r a b (-1) = true ∧ ∀ c, c < B → c ≠ b → ¬ inS N c → r a c (-1) = true → r a b (nI c) = true := by
  have := fo_inv (f := fun b f => if ¬ inS N b ∧ r a b f = true then nI b else f) (fun i f => i ≤ B → (f = -1 ∧ ∀ b, b < i → ¬ inS N b → ¬ r a b (-1) = true) ∨ ∃ b, b < i ∧ f = nI b ∧ ¬ inS N b ∧ r a b (-1) = true ∧ ∀ c, c < i → c ≠ b → ¬ inS N c → r a c (-1) = true → r a b (nI c) = true) B 0 (-1) (fun _ => Or.inl ⟨rfl, fun b hb => absurd hb (Nat.not_lt_zero _)⟩) (fun j f _ hj hf hle => by
    have hf0 := hf (by omega)
    clear hf
    try simp only
    rcases hf0 with ⟨rfl, hf⟩ | ⟨b, hb, rfl, hn, hacc, hmax⟩
    · split
      · next c => exact Or.inr ⟨j, by omega, rfl, c.1, c.2, fun c2 h1 h2 h3 h4 => absurd h4 (hf c2 (by omega) h3)⟩
      · next c =>
        refine Or.inl ⟨rfl, fun b hb hn hac => ?_⟩
        by_cases z : b = j
        · subst z; exact c ⟨hn, hac⟩
        · exact hf b (by omega) hn hac
    · split
      · next c =>
        have hac := hP.1 a j b ha (by omega) (by omega) c.2
        refine Or.inr ⟨j, by omega, rfl, c.1, hac, fun c2 h1 h2 h3 h4 => ?_⟩
        by_cases z : c2 = b
        · rw [z]; exact c.2
        · exact hP.2.2.1 a j b c2 ha (by omega) (by omega) (by omega) c.2 (hmax c2 (by omega) z h3 h4)
      · next c =>
        refine Or.inr ⟨b, by omega, rfl, hn, hacc, fun c2 h1 h2 h3 h4 => ?_⟩
        by_cases z : c2 = j
        · subst z
          exact (hP.2.2.2 a b c2 ha (by omega) (by omega) (Ne.symm h2) hacc h4).resolve_right (fun q => c ⟨h3, q⟩)
        · exact hmax c2 (by omega) h2 h3 h4)
  rw [Nat.zero_add] at this
  exact this (Nat.le_refl _)
/-- while askers ask: nobody of a way without two who would rather has been refused by the one of that way -/
def GI (A B : Nat) (r1 : Nat → Nat → Int32 → Bool) (u : Nat → Int32) (s : GS) : Prop :=
  (∀ a, a < A → s.1 a = -1 ∨ ∃ b, b < B ∧ s.1 a = nI b ∧ s.2.1 b = nI a ∧ inS (s.2.2 a) b ∧ r1 a b (-1) = true) ∧
  (∀ b, b < B → s.2.1 b = -1 ∨ ∃ a, a < A ∧ s.2.1 b = nI a ∧ s.1 a = nI b) ∧
  (∀ a b c, a < A → b < B → c < B → inS (s.2.2 a) b → r1 a c (nI b) = true → inS (s.2.2 a) c) ∧
  (∀ a b, a < A → b < B → inS (s.2.2 a) b → s.1 a ≠ nI b → u a ≠ nI b)
theorem GI_note (hP1 : prefOk A B r1) {a b : Nat} (ha : a < A) (hb : b < B) (hA : A ≤ 8) (hB : B ≤ 8) (hfree : s.1 a = -1) (hG : GI A B r1 u s) (hbest : ∀ c, c < B → c ≠ b → ¬ inS (s.2.2 a) c → r1 a c (-1) = true → r1 a b (nI c) = true) (hu : u a ≠ nI b) : GI A B r1 u (gsNote a b s) := by
  obtain ⟨g1, g2, g3, g4⟩ := hG
  have en : ∀ k, (gsNote a b s).2.2 k = if k = a then s.2.2 a ||| 2 ^ b else s.2.2 k := fun _ => rfl
  refine ⟨fun k hk => (g1 k hk).imp id (fun ⟨c, h1, h2, h3, h4, h5⟩ => ⟨c, h1, h2, h3, by
    rw [en]
    split
    · next z => rw [inS_orN, ← z]; exact Or.inl h4
    · exact h4, h5⟩), g2, fun k c d hk hc hd h1 h2 => ?_, fun k c hk hc h1 h2 => ?_⟩
  · rw [en] at h1 ⊢
    by_cases z : k = a
    · rw [if_pos z] at h1 ⊢
      subst z
      rw [inS_orN] at h1 ⊢
      rcases h1 with h1 | h1
      · exact Or.inl (g3 k c d hk hc hd h1 h2)
      · subst h1
        by_cases y : inS (s.2.2 k) d
        · exact Or.inl y
        · have hac := hP1.1 k d c hk hd hc h2
          by_cases e : d = c
          · exact Or.inr e
          · exact absurd h2 (hP1.2.1 k c d hk hc hd (hbest d hd e y hac))
    · rw [if_neg z] at h1 ⊢
      exact g3 k c d hk hc hd h1 h2
  · rw [en] at h1
    by_cases z : k = a
    · rw [if_pos z] at h1
      subst z
      rw [inS_orN] at h1
      rcases h1 with h1 | h1
      · exact g4 k c hk hc h1 (by rw [hfree]; exact fun q => nI_nm1 (by omega) q.symm)
      · rw [h1]; exact hu
    · rw [if_neg z] at h1
      exact g4 k c hk hc h1 h2
theorem GI_ask (hP1 : prefOk A B r1) (hP2 : prefOk B A r2) (hs : ∀ a b, a < A → b < B → (r1 a b (-1) = true ↔ r2 b a (-1) = true)) (hA : A ≤ 8) (hB : B ≤ 8) {a : Nat} (ha : a < A) (hU0 : Stab A B r1 r2 u v ∨ ∀ a, u a = -1) (hG : GI A B r1 u s) : GI A B r1 u (gsAsk r1 r2 B a s) := by
  unfold gsAsk
  by_cases hfree : s.1 a = -1
  · rw [if_pos hfree]
    rcases gsBest_max (N := s.2.2 a) hP1 hB ha with ⟨e, _⟩ | ⟨b, hb, e, hn, hacc, hmax⟩
    · rw [if_pos e]; exact hG
    · rw [e, if_neg (nI_nm1 (by omega)), nI_clamp (by omega)]
      have hG0 := hG
      obtain ⟨g1, g2, g3, g4⟩ := hG
      have hacc2 := (hs a b ha hb).1 hacc
      by_cases ht : r2 b a (s.2.1 b) = true
      · rw [if_pos ht]
        -- a is taken; whoever was there is refused
        have hdis : ∀ a2, a2 < A → s.2.1 b = nI a2 → u a2 ≠ nI b := fun a2 ha2 e2 hu2 => by
          have hU := hU0.resolve_right (fun hU => by rw [hU] at hu2; exact nI_nm1 (by omega) hu2.symm)
          rw [e2] at ht
          have hne : a2 ≠ a := fun q => by
            subst q
            exact pref_irr hP2 hb ha2 ht
          obtain ⟨b', hb', eb', ev, _⟩ := (hU.1 a2 ha2).resolve_left (by rw [hu2]; exact nI_nm1 (by omega))
          have : b' = b := nI_inj (by omega) (by omega) (eb'.symm.trans hu2)
          subst this
          refine hU.2.2 a b' ha hb' ?_ (by rw [ev]; exact ht)
          rcases hU.1 a ha with q | ⟨c, hc, ec, evc, hca⟩
          · rw [q]; exact hacc
          · rw [ec]
            have hcb : c ≠ b' := fun q => by
              subst q
              exact hne (nI_inj (by omega) (by omega) (ev.symm.trans evc))
            by_cases y : inS (s.2.2 a) c
            · exact absurd ec (g4 a c ha hc y (by rw [hfree]; exact fun q => nI_nm1 (by omega) q.symm))
            · exact hmax c hc hcb y hca
        have e1 : ∀ k, (gsTake a b (gsNote a b s)).1 k = if k = a then nI b else if nI k = s.2.1 b then -1 else s.1 k := fun _ => rfl
        have e2 : ∀ k, (gsTake a b (gsNote a b s)).2.1 k = if k = b then nI a else s.2.1 k := fun _ => rfl
        have e3 : ∀ k, (gsTake a b (gsNote a b s)).2.2 k = if k = a then s.2.2 a ||| 2 ^ b else s.2.2 k := fun _ => rfl
        have hno : ∀ k, k < A → s.1 k = nI b → nI k = s.2.1 b := fun k hk q => by
          obtain ⟨b', hb', eb', ev, _⟩ := (g1 k hk).resolve_left (by rw [q]; exact nI_nm1 (by omega))
          have : b' = b := nI_inj (by omega) (by omega) (eb'.symm.trans q)
          subst this
          exact ev.symm
        refine ⟨fun k hk => ?_, fun c hc => ?_, fun k c d hk hc hd h1 h2 => ?_, fun k c hk hc h1 h2 => ?_⟩
        · rw [e1]
          by_cases z : k = a
          · rw [if_pos z]
            refine Or.inr ⟨b, hb, rfl, ?_, ?_, by rw [z]; exact hacc⟩
            · rw [e2, if_pos rfl, z]
            · rw [e3, if_pos z, inS_orN]; exact Or.inr rfl
          · rw [if_neg z]
            by_cases z2 : nI k = s.2.1 b
            · rw [if_pos z2]; exact Or.inl rfl
            · rw [if_neg z2]
              refine (g1 k hk).imp id (fun ⟨c, h1, h2, h3, h4, h5⟩ => ⟨c, h1, h2, ?_, ?_, h5⟩)
              · rw [e2, if_neg (fun q => z2 (hno k hk (by rw [← q]; exact h2)))]; exact h3
              · rw [e3, if_neg z]; exact h4
        · rw [e2]
          by_cases z : c = b
          · rw [if_pos z]
            refine Or.inr ⟨a, ha, rfl, ?_⟩
            rw [e1, if_pos rfl, z]
          · rw [if_neg z]
            refine (g2 c hc).imp id (fun ⟨k, h1, h2, h3⟩ => ⟨k, h1, h2, ?_⟩)
            rw [e1, if_neg (fun q => by rw [q, hfree] at h3; exact nI_nm1 (by omega) h3.symm)]
            rw [if_neg (fun q => ?_)]
            · exact h3
            · rcases g2 b hb with q2 | ⟨k2, hk2, q2, q3⟩
              · rw [q2] at q; exact nI_nm1 (by omega) q
              · have : k = k2 := nI_inj (by omega) (by omega) (q.trans q2)
                subst this
                exact z (nI_inj (by omega) (by omega) (h3.symm.trans q3))
        · rw [e3] at h1 ⊢
          by_cases z : k = a
          · rw [if_pos z] at h1 ⊢
            subst z
            rw [inS_orN] at h1 ⊢
            rcases h1 with h1 | h1
            · exact Or.inl (g3 k c d hk hc hd h1 h2)
            · subst h1
              by_cases y : inS (s.2.2 k) d
              · exact Or.inl y
              · have hac := hP1.1 k d c hk hd hc h2
                by_cases e : d = c
                · exact Or.inr e
                · exact absurd h2 (hP1.2.1 k c d hk hc hd (hmax d hd e y hac))
          · rw [if_neg z] at h1 ⊢
            exact g3 k c d hk hc hd h1 h2
        · rw [e3] at h1
          rw [e1] at h2
          by_cases z : k = a
          · rw [if_pos z] at h1 h2
            subst z
            rw [inS_orN] at h1
            rcases h1 with h1 | h1
            · exact g4 k c hk hc h1 (by rw [hfree]; exact fun q => nI_nm1 (by omega) q.symm)
            · subst h1; exact absurd rfl h2
          · rw [if_neg z] at h1 h2
            by_cases z2 : nI k = s.2.1 b
            · by_cases z3 : s.1 k = nI c
              · rcases g1 k hk with q | ⟨c2, _, q, q2, _⟩
                · rw [q] at z3; exact absurd z3.symm (nI_nm1 (by omega))
                · have hc2 : c2 = c := nI_inj (by omega) (by omega) (q.symm.trans z3)
                  subst hc2
                  rcases g2 b hb with q3 | ⟨k3, hk3, q3, q4⟩
                  · rw [q3] at z2; exact absurd z2 (nI_nm1 (by omega))
                  · have : k = k3 := nI_inj (by omega) (by omega) (z2.trans q3)
                    subst this
                    have : c2 = b := nI_inj (by omega) (by omega) (z3.symm.trans q4)
                    subst this
                    exact hdis k hk z2.symm
              · exact g4 k c hk hc h1 z3
            · rw [if_neg z2] at h2
              exact g4 k c hk hc h1 h2
      · rw [if_neg ht]
        refine GI_note hP1 ha hb hA hB hfree hG0 hmax (fun hu => ?_)
        have hU := hU0.resolve_right (fun hU => by rw [hU] at hu; exact nI_nm1 (by omega) hu.symm)
        -- a is refused by b, who has somebody whom it would rather
        rcases g2 b hb with q | ⟨a2, ha2, q, q2⟩
        · rw [q] at ht; exact ht hacc2
        · rw [q] at ht
          have hne : a2 ≠ a := fun z => by rw [z, hfree] at q2; exact nI_nm1 (by omega) q2.symm
          obtain ⟨b', _, eb', _, hin, ha2c⟩ := (g1 a2 ha2).resolve_left (by rw [q2]; exact nI_nm1 (by omega))
          have : b' = b := nI_inj (by omega) (by omega) (eb'.symm.trans q2)
          subst this
          have ha22 := (hs a2 b' ha2 hb).1 ha2c
          have hr := (hP2.2.2.2 b' a a2 hb ha ha2 (Ne.symm hne) hacc2 ha22).resolve_left ht
          obtain ⟨b3, hb3, eb3, ev, _⟩ := (hU.1 a ha).resolve_left (by rw [hu]; exact nI_nm1 (by omega))
          have : b3 = b' := nI_inj (by omega) (by omega) (eb3.symm.trans hu)
          subst this
          refine hU.2.2 a2 b3 ha2 hb3 ?_ (by rw [ev]; exact hr)
          rcases hU.1 a2 ha2 with w | ⟨c, hc, ec, evc, hca⟩
          · rw [w]; exact ha2c
          · rw [ec]
            have hcb : c ≠ b3 := fun z => by
              subst z
              exact hne (nI_inj (by omega) (by omega) (evc.symm.trans ev))
            refine (hP1.2.2.2 a2 b3 c ha2 hb3 hc (Ne.symm hcb) ha2c hca).resolve_right (fun z => ?_)
            exact g4 a2 c ha2 hc (g3 a2 b3 c ha2 hb3 hc hin z) (by rw [eb']; exact fun z2 => hcb (nI_inj (by omega) (by omega) z2).symm) ec
  · rw [if_neg hfree]; exact hG
theorem GI_0 : GI A B r1 u gs0 := ⟨fun _ _ => Or.inl rfl, fun _ _ => Or.inl rfl, fun a b c _ _ _ h => absurd h (by show ¬ inS 0 b; rw [inS_bit]; simp), fun a b _ _ h => absurd h (by show ¬ inS 0 b; rw [inS_bit]; simp)⟩
theorem GI_way (v : Nat → Int32) (hP1 : prefOk A B r1) (hP2 : prefOk B A r2) (hs : ∀ a b, a < A → b < B → (r1 a b (-1) = true ↔ r2 b a (-1) = true)) (hA : A ≤ 8) (hB : B ≤ 8) (hU : Stab A B r1 r2 u v ∨ ∀ a, u a = -1) : GI A B r1 u (gsWay r1 r2 A B) := by
  have hp : ∀ s, GI A B r1 u s → GI A B r1 u (gsPass r1 r2 A B s) := fun s h =>
    fo_inv (f := gsAsk r1 r2 B) (fun _ s => GI A B r1 u s) A 0 s h (fun j b _ hj hb => GI_ask hP1 hP2 hs hA hB (by omega) hU hb)
  have hi : ∀ k s, GI A B r1 u s → GI A B r1 u (iter (gsPass r1 r2 A B) k s) := by
    intro k
    induction k with
    | zero => intro s h; exact h
    | succ k ih => intro s h; exact ih _ (hp s h)
  exact hi 64 _ GI_0
theorem way_noask (hA : A ≤ 8) (hB : B ≤ 8) : ∀ a, a < A → ¬ gsAsks r1 B a (gsWay r1 r2 A B) := by
  obtain ⟨j, j1, j2, j3, _⟩ := gs_end (r1 := r1) (r2 := r2) hA hB 64 gs0 (fun _ => by show (0 : Nat) < 256; decide) (by omega)
  unfold gsWay
  rw [gs_64 j1 j3]
  exact j2
/-- an asker has in no way anybody whom it would rather than the one that it has by asking -/
theorem way_best (hP1 : prefOk A B r1) (hP2 : prefOk B A r2) (hs : ∀ a b, a < A → b < B → (r1 a b (-1) = true ↔ r2 b a (-1) = true)) (hA : A ≤ 8) (hB : B ≤ 8) (hU : Stab A B r1 r2 u v) {a c : Nat} (ha : a < A) (hc : c < B) (hu : u a = nI c) : ∃ b, b < B ∧ (gsWay r1 r2 A B).1 a = nI b ∧ (c = b ∨ r1 a b (nI c) = true) := by
  have hG := GI_way v hP1 hP2 hs hA hB (Or.inl hU)
  have hno := way_noask (r1 := r1) (r2 := r2) hA hB a ha
  obtain ⟨g1, g2, g3, g4⟩ := hG
  generalize gsWay r1 r2 A B = s at *
  obtain ⟨c', hc', ec', _, hcc⟩ := (hU.1 a ha).resolve_left (by rw [hu]; exact nI_nm1 (by omega))
  have : c' = c := nI_inj (by omega) (by omega) (ec'.symm.trans hu)
  subst this
  rcases g1 a ha with q | ⟨b, hb, q, _, hin, hacc⟩
  · exfalso
    rcases gsBest_max (N := s.2.2 a) hP1 hB ha with ⟨e, hall⟩ | ⟨b, hb, e, _⟩
    · by_cases y : inS (s.2.2 a) c'
      · exact g4 a c' ha hc' y (by rw [q]; exact fun z => nI_nm1 (by omega) z.symm) hu
      · exact hall c' hc' y hcc
    · exact hno ⟨q, by rw [e]; exact nI_nm1 (by omega)⟩
  · refine ⟨b, hb, q, ?_⟩
    by_cases z : c' = b
    · exact Or.inl z
    · refine Or.inr ((hP1.2.2.2 a b c' ha hb hc' (Ne.symm z) hacc hcc).resolve_right (fun w => ?_))
      exact g4 a c' ha hc' (g3 a b c' ha hb hc' hin w) (by rw [q]; exact fun z2 => z (nI_inj (by omega) (by omega) z2).symm) hu
theorem way_pairs (hA : A ≤ 8) (hB : B ≤ 8) (hP1 : prefOk A B r1) (hP2 : prefOk B A r2) (hs : ∀ a b, a < A → b < B → (r1 a b (-1) = true ↔ r2 b a (-1) = true)) : (∀ a, a < A → (gsWay r1 r2 A B).1 a = -1 ∨ ∃ b, b < B ∧ (gsWay r1 r2 A B).1 a = nI b ∧ (gsWay r1 r2 A B).2.1 b = nI a ∧ r1 a b (-1) = true) ∧ ∀ b, b < B → (gsWay r1 r2 A B).2.1 b = -1 ∨ ∃ a, a < A ∧ (gsWay r1 r2 A B).2.1 b = nI a ∧ (gsWay r1 r2 A B).1 a = nI b :=
  have hG := GI_way (u := fun _ => -1) (fun _ => -1) hP1 hP2 hs hA hB (Or.inr fun _ => rfl)
  ⟨fun a ha => (hG.1 a ha).imp id (fun ⟨b, h1, h2, h3, _, h5⟩ => ⟨b, h1, h2, h3, h5⟩), hG.2.1⟩
theorem Stab.flip (hU : Stab A B r1 r2 u v) (hs : ∀ a b, a < A → b < B → (r1 a b (-1) = true ↔ r2 b a (-1) = true)) (hB : B ≤ 8) : Stab B A r2 r1 v u :=
  ⟨fun b hb => (hU.2.1 b hb).imp id (fun ⟨a, ha, h1, h2⟩ => ⟨a, ha, h1, h2, by
    obtain ⟨b', hb', e, _, hac⟩ := (hU.1 a ha).resolve_left (by rw [h2]; exact nI_nm1 (by omega))
    have : b' = b := nI_inj (by omega) (by omega) (e.symm.trans h2)
    subst this
    exact (hs a b' ha hb').1 hac⟩), fun a ha => (hU.1 a ha).imp id (fun ⟨b, hb, h1, h2, _⟩ => ⟨b, hb, h1, h2⟩), fun b a hb ha h1 h2 => hU.2.2 a b ha hb h2 h1⟩
theorem inj_surj : ∀ (n : Nat) (f : Nat → Nat), (∀ i, i < n → f i < n) → (∀ i j, i < n → j < n → f i = f j → i = j) → ∀ k, k < n → ∃ i, i < n ∧ f i = k := by
  intro n
  induction n with
  | zero => intro f _ _ k hk; exact absurd hk (Nat.not_lt_zero _)
  | succ n ih =>
    intro f h1 h2 k hk
    -- swap f n with n
    have hs : ∀ k, k < n → ∃ i, i < n ∧ (if f i = n then f n else f i) = k := by
      refine ih (fun i => if f i = n then f n else f i) (fun i hi => ?_) (fun i j hi hj e => ?_)
      · show (if f i = n then f n else f i) < n
        have a1 := h1 i (by omega)
        have a2 := h1 n (by omega)
        split
        · next z =>
          have : f n ≠ n := fun q => by
            have := h2 i n (by omega) (by omega) (z.trans q.symm)
            omega
          omega
        · omega
      · have e : (if f i = n then f n else f i) = (if f j = n then f n else f j) := e
        split at e
        · next z =>
          split at e
          · next z2 => exact h2 i j (by omega) (by omega) (z.trans z2.symm)
          · have := h2 n j (by omega) (by omega) e
            omega
        · split at e
          · have := h2 i n (by omega) (by omega) e
            omega
          · exact h2 i j (by omega) (by omega) e
    by_cases hn : f n = n
    · by_cases z : k = n
      · exact ⟨n, by omega, by rw [hn, z]⟩
      · obtain ⟨i, hi, e⟩ := hs k (by omega)
        refine ⟨i, by omega, ?_⟩
        split at e
        · next z2 => have := h2 i n (by omega) (by omega) (z2.trans hn.symm); omega
        · exact e
    · by_cases z : k = f n
      · exact ⟨n, by omega, z.symm⟩
      · by_cases z2 : k = n
        · obtain ⟨i, hi, e⟩ := hs (f n) (by have := h1 n (by omega); omega)
          split at e
          · next z3 => exact ⟨i, by omega, by rw [z3, z2]⟩
          · have := h2 i n (by omega) (by omega) e; omega
        · obtain ⟨i, hi, e⟩ := hs k (by omega)
          refine ⟨i, by omega, ?_⟩
          split at e
          · exact absurd e.symm z
          · exact e
/-- in any way in which just those of A have somebody that have one by asking, these have those whom these asked -/
theorem way_same (hP1 : prefOk A B r1) (hP2 : prefOk B A r2) (hs : ∀ a b, a < A → b < B → (r1 a b (-1) = true ↔ r2 b a (-1) = true)) (hA : A ≤ 8) (hB : B ≤ 8) (hU : Stab A B r1 r2 u v) (hm : ∀ a, a < A → ((gsWay r1 r2 A B).1 a = -1 ↔ u a = -1)) {a b : Nat} (ha : a < A) (hb : b < B) (hu : u a = nI b) : (gsWay r1 r2 A B).2.1 b ≠ -1 := by
  obtain ⟨w1, w2⟩ := way_pairs hA hB hP1 hP2 hs
  have hbest := fun {a c : Nat} (ha : a < A) (hc : c < B) (hu : u a = nI c) => way_best hP1 hP2 hs hA hB hU ha hc hu
  generalize gsWay r1 r2 A B = s at *
  -- whoever is had by asking is had in u
  have key : ∀ k c, k < A → c < B → s.1 k = nI c → ∃ k2, k2 < A ∧ v c = nI k2 := fun k c hk hc e => by
    rcases hU.2.1 c hc with q | ⟨k2, hk2, q, _⟩
    · exfalso
      have hne : ¬ u k = -1 := fun z => by rw [(hm k hk).2 z] at e; exact nI_nm1 (by omega) e.symm
      obtain ⟨d, hd, ed, ev, _⟩ := (hU.1 k hk).resolve_left hne
      obtain ⟨b2, hb2, e2, e3⟩ := hbest hk hd ed
      have : b2 = c := nI_inj (by omega) (by omega) (e2.symm.trans e)
      subst this
      have hdc : d ≠ b2 := fun z => by subst z; rw [ev] at q; exact nI_nm1 (by omega) q
      have hr := e3.resolve_left hdc
      have hac := hP1.1 k b2 d hk hb2 hd hr
      exact hU.2.2 k b2 hk hb2 (by rw [ed]; exact hr) (by rw [q]; exact (hs k b2 hk hb2).1 hac)
    · exact ⟨k2, hk2, q⟩
  -- f: of each one that has somebody by asking, who has that one in u
  have hne : ¬ u a = -1 := by rw [hu]; exact nI_nm1 (by omega)
  obtain ⟨i, hi, e⟩ := inj_surj A (fun k => if s.1 k = -1 then k else (v (s.1 k).toNatClampNeg).toNatClampNeg) (fun k hk => by
    show (if s.1 k = -1 then k else (v (s.1 k).toNatClampNeg).toNatClampNeg) < A
    split
    · exact hk
    · next z =>
      obtain ⟨c, hc, ec, _⟩ := (w1 k hk).resolve_left z
      obtain ⟨k2, hk2, e2⟩ := key k c hk hc ec
      rw [ec, nI_clamp (by omega), e2, nI_clamp (by omega)]
      exact hk2) (fun k l hk hl e => by
    have e : (if s.1 k = -1 then k else (v (s.1 k).toNatClampNeg).toNatClampNeg) = (if s.1 l = -1 then l else (v (s.1 l).toNatClampNeg).toNatClampNeg) := e
    have mem : ∀ k, k < A → ¬ s.1 k = -1 → ∃ c k2, c < B ∧ k2 < A ∧ s.1 k = nI c ∧ s.2.1 c = nI k ∧ v c = nI k2 ∧ u k2 = nI c ∧ (v (s.1 k).toNatClampNeg).toNatClampNeg = k2 := fun k hk z => by
      obtain ⟨c, hc, ec, es, _⟩ := (w1 k hk).resolve_left z
      rcases hU.2.1 c hc with q | ⟨k2, hk2, q, q2⟩
      · obtain ⟨k2, _, e2⟩ := key k c hk hc ec
        rw [q] at e2; exact absurd e2.symm (nI_nm1 (by omega))
      · exact ⟨c, k2, hc, hk2, ec, es, q, q2, by rw [ec, nI_clamp (by omega), q, nI_clamp (by omega)]⟩
    split at e
    · next z =>
      split at e
      · exact e
      · next z2 =>
        obtain ⟨c, k2, hc, hk2, _, _, _, q2, q3⟩ := mem l hl z2
        rw [q3] at e
        subst e
        rw [(hm k hk).1 z] at q2
        exact absurd q2.symm (nI_nm1 (by omega))
    · next z =>
      obtain ⟨c, k2, hc, hk2, p1, p2, _, q2, q3⟩ := mem k hk z
      rw [q3] at e
      split at e
      · next z2 =>
        subst e
        rw [(hm k2 hk2).1 z2] at q2
        exact absurd q2.symm (nI_nm1 (by omega))
      · next z2 =>
        obtain ⟨c', k2', hc', hk2', p1', p2', _, q2', q3'⟩ := mem l hl z2
        rw [q3'] at e
        subst e
        have : c = c' := nI_inj (by omega) (by omega) (q2.symm.trans q2')
        subst this
        exact nI_inj (by omega) (by omega) (p2.symm.trans p2')) a ha
  have e : (if s.1 i = -1 then i else (v (s.1 i).toNatClampNeg).toNatClampNeg) = a := e
  split at e
  · next z => subst e; exact absurd ((hm i hi).1 z) hne
  · next z =>
    obtain ⟨c, hc, ec, es, _⟩ := (w1 i hi).resolve_left z
    rcases hU.2.1 c hc with q | ⟨k2, hk2, q, q2⟩
    · obtain ⟨k2, _, e2⟩ := key i c hi hc ec
      rw [q] at e2; exact absurd e2.symm (nI_nm1 (by omega))
    · rw [ec, nI_clamp (by omega), q, nI_clamp (by omega)] at e
      subst e
      have : b = c := nI_inj (by omega) (by omega) (hu.symm.trans q2)
      subst this
      rw [es]
      exact nI_nm1 (by omega)
end MT
