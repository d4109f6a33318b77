/-! ===== PURE: hosts ask, guests ask (printed by tools/gen_gs.py) ===== -/
/-- the component's pairs at x + 149: of each asker its other (row ra), of each other its asker (row rb), what was asked (row 3) -/
def PRel (V : Nat → Nat → Int32) (x ra rb : Nat) (s : GS) : Prop := ∀ k, k < 8 → V (x + 149 + ra) k = s.1 k ∧ V (x + 149 + rb) k = s.2.1 k ∧ V (x + 149 + 3) k = nI (s.2.2 k)
def gsOk (A B : Nat) (s : GS) : Prop := gsSet s ∧ ∀ k, (s.1 k = -1 ∨ ∃ b, b < B ∧ s.1 k = nI b) ∧ (s.2.1 k = -1 ∨ ∃ a, a < A ∧ s.2.1 k = nI a)
theorem gsOk_take {A B a b : Nat} {s : GS} (ha : a < A) (hb : b < B) (h : gsOk A B s) : gsOk A B (gsTake a b s) := by
  refine ⟨h.1, fun k => ⟨?_, ?_⟩⟩
  · show (if k = a then nI b else if nI k = s.2.1 b then -1 else s.1 k) = -1 ∨ _
    unfold gsTake
    try simp only
    split
    · exact Or.inr ⟨b, hb, rfl⟩
    · split
      · exact Or.inl rfl
      · exact (h.2 k).1
  · unfold gsTake
    try simp only
    split
    · exact Or.inr ⟨a, ha, rfl⟩
    · exact (h.2 k).2
theorem gsOk_ask {r1 r2 : Nat → Nat → Int32 → Bool} {A B a : Nat} {s : GS} (hA : A ≤ 8) (hB : B ≤ 8) (ha : a < A) (h : gsOk A B s) : gsOk A B (gsAsk r1 r2 B a s) := by
  have h1 := (gsAsk_mu (r1 := r1) (r2 := r2) hA hB ha h.1).1
  refine ⟨h1, ?_⟩
  unfold gsAsk
  split
  · rcases gsBest_or (r1 := r1) (B := B) (a := a) (N := s.2.2 a) with e | ⟨b, hb, e, hn⟩
    · rw [if_pos e]; exact h.2
    · rw [e, if_neg (nI_nm1 (by omega)), cl8 (by omega)]
      have hN : ∀ k, ((gsNote a b s).1 k = -1 ∨ ∃ b, b < B ∧ (gsNote a b s).1 k = nI b) ∧ ((gsNote a b s).2.1 k = -1 ∨ ∃ a, a < A ∧ (gsNote a b s).2.1 k = nI a) := h.2
      split
      · intro k
        constructor
        · show (if k = a then nI b else if nI k = s.2.1 b then -1 else s.1 k) = -1 ∨ ∃ b', b' < B ∧ (if k = a then nI b else if nI k = s.2.1 b then -1 else s.1 k) = nI b'
          split
          · exact Or.inr ⟨b, hb, rfl⟩
          · split
            · exact Or.inl rfl
            · exact (h.2 k).1
        · show (if k = b then nI a else s.2.1 k) = -1 ∨ ∃ a', a' < A ∧ (if k = b then nI a else s.2.1 k) = nI a'
          split
          · exact Or.inr ⟨a, ha, rfl⟩
          · exact (h.2 k).2
      · exact hN
  · exact h.2
section PG3
variable {x t : Nat} {V : Nat → Nat → Int32} {m : Nat → Int32} {Q0 : (Nat → Nat → Int32) → Prop} {s : GS}
theorem s5_hostAsks {a : Nat} (hW : WRel V (x + 1) m) (hR : RowOk m) (ha : a < nH m) (hP : PRel V x 1 2 s) (hs : gsOk (nH m) (nG m) s) (hfree : s.1 a = -1) (hq : ∀ V', (∀ r, r ≠ x + 149 + 1 → r ≠ x + 149 + 2 → r ≠ x + 149 + 3 → V' r = V r) → PRel V' x 1 2 (gsAsk (f_hr m) (f_gr m) (nG m) a s) → Q0 V') : wX5_hostAsks x V (nI a) Q0 := by
  have h8 := hR.H8; have g8 := hR.G8
  have ia := in8 (show a < 8 by omega)
  have ca := cl8 (show a < 8 by omega)
  unfold gsAsk at hq
  rw [if_pos hfree] at hq
  have p := hP a (by omega)
  unfold wX5_hostAsks
  rw [ca, p.2.2]
  refine ⟨ia, s5_bestGuest hW hR ha (hs.1 a) ⟨fun z => ?_, fun z => ?_⟩⟩
  · obtain ⟨b, hb, e, hn⟩ := (gsBest_or (r1 := f_hr m) (B := nG m) (a := a) (N := s.2.2 a)).resolve_left z
    rw [e, if_neg (nI_nm1 (by omega)), cl8 (show b < 8 by omega)] at hq
    rw [e]
    have o := set_or ⟨s.2.2 a, hs.1 a⟩ ⟨b, by omega⟩
    simp only at o
    refine ⟨ia, nm_r o.1 ⟨ia, in8 (by omega), ?_⟩⟩
    rw [cl8 (show b < 8 by omega)]
    have pn : PRel (vset V (x + 149 + 3) a (nI (s.2.2 a ||| 2 ^ b))) x 1 2 (gsNote a b s) := by
      intro k hk
      have pk := hP k hk
      refine ⟨by rw [vset_n _ _ _ (by omega)]; exact pk.1, by rw [vset_n _ _ _ (by omega)]; exact pk.2.1, ?_⟩
      show _ = nI (if k = a then s.2.2 a ||| 2 ^ b else s.2.2 k)
      rw [vset_s]
      by_cases c : k = a
      · rw [if_pos c, c, pk_us]
      · rw [if_neg c, pk_un c]; exact pk.2.2
    have fn : ∀ r, r ≠ x + 149 + 1 → r ≠ x + 149 + 2 → r ≠ x + 149 + 3 → vset V (x + 149 + 3) a (nI (s.2.2 a ||| 2 ^ b)) r = V r := fun r _ _ h3 => vset_n _ _ _ h3
    generalize vset V (x + 149 + 3) a (nI (s.2.2 a ||| 2 ^ b)) = V1 at *
    have w1 : WRel V1 (x + 1) m := hW.frame (fun r h1 h2 => fn r (by omega) (by omega) (by omega)) h8 g8
    have hb1 : V1 (x + 149 + 2) b = s.2.1 b := (pn b (by omega)).2.1
    refine nm_r hb1 (s5_guestRather w1 hR ha hb ((hs.2 b).2) ⟨fun z1 => ?_, fun z1 => ?_⟩)
    · have z2 := Classical.byContradiction (fun q => z1 (b2i_f q))
      rw [if_pos z2] at hq
      have fin : ∀ V2 : Nat → Nat → Int32, (∀ r, r ≠ x + 149 + 1 → V2 r = V1 r) → (∀ k, k < 8 → V2 (x + 149 + 1) k = if nI k = s.2.1 b then -1 else s.1 k) → wX5_hostAsks_60 x (nI a) Q0 V2 (nI b) := by
        intro V2 f2 e2
        unfold wX5_hostAsks_60
        rw [ca, cl8 (show b < 8 by omega)]
        refine ⟨in8 (by omega), ia, hq _ (fun r r1 r2 r3 => ?_) (fun k hk => ⟨?_, ?_, ?_⟩)⟩
        · rw [vset_n _ _ _ (by omega), vset_n _ _ _ (by omega), f2 r (by omega)]
          exact fn r r1 r2 r3
        · show _ = if k = a then nI b else if nI k = s.2.1 b then -1 else s.1 k
          rw [vset_s, vset_n _ _ _ (by omega)]
          by_cases c : k = a
          · rw [if_pos c, c, pk_us]
          · rw [if_neg c, pk_un c]; exact e2 k hk
        · show _ = if k = b then nI a else s.2.1 k
          rw [vset_n _ _ _ (by omega), vset_s]
          by_cases c : k = b
          · rw [if_pos c, c, pk_us]
          · rw [if_neg c, pk_un c, f2 _ (by omega)]; exact (pn k hk).2.1
        · rw [vset_n _ _ _ (by omega), vset_n _ _ _ (by omega), f2 _ (by omega)]
          exact (pn k hk).2.2
      refine br_c (fun z3 => fin V1 (fun _ _ => rfl) (fun k hk => ?_)) (fun z3 => ?_)
      · rw [z3, if_neg (nI_nm1 (by omega))]; exact (pn k hk).1
      · obtain ⟨y, hy, ey⟩ := ((hs.2 b).2).resolve_left z3
        rw [ey, cl8 (show y < 8 by omega)]
        refine ⟨in8 (by omega), fin _ (fun r hr => vset_n _ _ _ hr) (fun k hk => ?_)⟩
        rw [vset_s, ey]
        by_cases c : k = y
        · rw [c, pk_us, if_pos rfl]
        · rw [pk_un c, if_neg (fun q => c ((nI_eq (by omega) (by omega)).mp q))]; exact (pn k hk).1
    · have z2 := b2i_0.mp z1
      rw [if_neg z2] at hq
      exact hq V1 fn pn
  · rw [if_pos z] at hq
    exact hq V (fun _ _ _ _ => rfl) hP
theorem s5_guestAsks {a : Nat} (hW : WRel V (x + 1) m) (hR : RowOk m) (ha : a < nG m) (hP : PRel V x 2 1 s) (hs : gsOk (nG m) (nH m) s) (hfree : s.1 a = -1) (hq : ∀ V', (∀ r, r ≠ x + 149 + 1 → r ≠ x + 149 + 2 → r ≠ x + 149 + 3 → V' r = V r) → PRel V' x 2 1 (gsAsk (f_gr m) (f_hr m) (nH m) a s) → Q0 V') : wX5_guestAsks x V (nI a) Q0 := by
  have h8 := hR.H8; have g8 := hR.G8
  have ia := in8 (show a < 8 by omega)
  have ca := cl8 (show a < 8 by omega)
  unfold gsAsk at hq
  rw [if_pos hfree] at hq
  have p := hP a (by omega)
  unfold wX5_guestAsks
  rw [ca, p.2.2]
  refine ⟨ia, s5_bestHost hW hR ha (hs.1 a) ⟨fun z => ?_, fun z => ?_⟩⟩
  · obtain ⟨b, hb, e, hn⟩ := (gsBest_or (r1 := f_gr m) (B := nH m) (a := a) (N := s.2.2 a)).resolve_left z
    rw [e, if_neg (nI_nm1 (by omega)), cl8 (show b < 8 by omega)] at hq
    rw [e]
    have o := set_or ⟨s.2.2 a, hs.1 a⟩ ⟨b, by omega⟩
    simp only at o
    refine ⟨ia, nm_r o.1 ⟨ia, in8 (by omega), ?_⟩⟩
    rw [cl8 (show b < 8 by omega)]
    have pn : PRel (vset V (x + 149 + 3) a (nI (s.2.2 a ||| 2 ^ b))) x 2 1 (gsNote a b s) := by
      intro k hk
      have pk := hP k hk
      refine ⟨by rw [vset_n _ _ _ (by omega)]; exact pk.1, by rw [vset_n _ _ _ (by omega)]; exact pk.2.1, ?_⟩
      show _ = nI (if k = a then s.2.2 a ||| 2 ^ b else s.2.2 k)
      rw [vset_s]
      by_cases c : k = a
      · rw [if_pos c, c, pk_us]
      · rw [if_neg c, pk_un c]; exact pk.2.2
    have fn : ∀ r, r ≠ x + 149 + 1 → r ≠ x + 149 + 2 → r ≠ x + 149 + 3 → vset V (x + 149 + 3) a (nI (s.2.2 a ||| 2 ^ b)) r = V r := fun r _ _ h3 => vset_n _ _ _ h3
    generalize vset V (x + 149 + 3) a (nI (s.2.2 a ||| 2 ^ b)) = V1 at *
    have w1 : WRel V1 (x + 1) m := hW.frame (fun r h1 h2 => fn r (by omega) (by omega) (by omega)) h8 g8
    have hb1 : V1 (x + 149 + 1) b = s.2.1 b := (pn b (by omega)).2.1
    refine nm_r hb1 (s5_hostRather w1 hR hb ha ((hs.2 b).2) ⟨fun z1 => ?_, fun z1 => ?_⟩)
    · have z2 := Classical.byContradiction (fun q => z1 (b2i_f q))
      rw [if_pos z2] at hq
      have fin : ∀ V2 : Nat → Nat → Int32, (∀ r, r ≠ x + 149 + 2 → V2 r = V1 r) → (∀ k, k < 8 → V2 (x + 149 + 2) k = if nI k = s.2.1 b then -1 else s.1 k) → wX5_guestAsks_60 x (nI a) Q0 V2 (nI b) := by
        intro V2 f2 e2
        unfold wX5_guestAsks_60
        rw [ca, cl8 (show b < 8 by omega)]
        refine ⟨in8 (by omega), ia, hq _ (fun r r1 r2 r3 => ?_) (fun k hk => ⟨?_, ?_, ?_⟩)⟩
        · rw [vset_n _ _ _ (by omega), vset_n _ _ _ (by omega), f2 r (by omega)]
          exact fn r r1 r2 r3
        · show _ = if k = a then nI b else if nI k = s.2.1 b then -1 else s.1 k
          rw [vset_s, vset_n _ _ _ (by omega)]
          by_cases c : k = a
          · rw [if_pos c, c, pk_us]
          · rw [if_neg c, pk_un c]; exact e2 k hk
        · show _ = if k = b then nI a else s.2.1 k
          rw [vset_n _ _ _ (by omega), vset_s]
          by_cases c : k = b
          · rw [if_pos c, c, pk_us]
          · rw [if_neg c, pk_un c, f2 _ (by omega)]; exact (pn k hk).2.1
        · rw [vset_n _ _ _ (by omega), vset_n _ _ _ (by omega), f2 _ (by omega)]
          exact (pn k hk).2.2
      refine br_c (fun z3 => fin V1 (fun _ _ => rfl) (fun k hk => ?_)) (fun z3 => ?_)
      · rw [z3, if_neg (nI_nm1 (by omega))]; exact (pn k hk).1
      · obtain ⟨y, hy, ey⟩ := ((hs.2 b).2).resolve_left z3
        rw [ey, cl8 (show y < 8 by omega)]
        refine ⟨in8 (by omega), fin _ (fun r hr => vset_n _ _ _ hr) (fun k hk => ?_)⟩
        rw [vset_s, ey]
        by_cases c : k = y
        · rw [c, pk_us, if_pos rfl]
        · rw [pk_un c, if_neg (fun q => c ((nI_eq (by omega) (by omega)).mp q))]; exact (pn k hk).1
    · have z2 := b2i_0.mp z1
      rw [if_neg z2] at hq
      exact hq V1 fn pn
  · rw [if_pos z] at hq
    exact hq V (fun _ _ _ _ => rfl) hP
end PG3
