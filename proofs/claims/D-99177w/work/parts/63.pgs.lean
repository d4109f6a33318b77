/-! ===== PURE: askers and others (both best ways): the runs, and that 64 rounds are enough ===== -/
abbrev GS : Type := (Nat → Int32) × (Nat → Int32) × (Nat → Nat)
/-- whom an asker wants of those that it may still ask; r1 a b f: a would rather have b than f -/
def gsBest (r1 : Nat → Nat → Int32 → Bool) (B a N : Nat) : Int32 := fo (fun b f => if ¬ inS N b ∧ r1 a b f = true then nI b else f) B 0 (-1)
def gsTake (a b : Nat) (s : GS) : GS := (fun k => if k = a then nI b else if nI k = s.2.1 b then -1 else s.1 k, fun k => if k = b then nI a else s.2.1 k, s.2.2)
def gsNote (a b : Nat) (s : GS) : GS := (s.1, s.2.1, fun k => if k = a then s.2.2 a ||| 2 ^ b else s.2.2 k)
def gsAsk (r1 r2 : Nat → Nat → Int32 → Bool) (B a : Nat) (s : GS) : GS :=
  if s.1 a = -1 then (if gsBest r1 B a (s.2.2 a) = -1 then s else
    if r2 (gsBest r1 B a (s.2.2 a)).toNatClampNeg a (s.2.1 (gsBest r1 B a (s.2.2 a)).toNatClampNeg) = true then gsTake a (gsBest r1 B a (s.2.2 a)).toNatClampNeg (gsNote a (gsBest r1 B a (s.2.2 a)).toNatClampNeg s)
    else gsNote a (gsBest r1 B a (s.2.2 a)).toNatClampNeg s) else s
def gsAsks (r1 : Nat → Nat → Int32 → Bool) (B a : Nat) (s : GS) : Prop := s.1 a = -1 ∧ ¬ gsBest r1 B a (s.2.2 a) = -1
def gsPass (r1 r2 : Nat → Nat → Int32 → Bool) (A B : Nat) (s : GS) : GS := fo (gsAsk r1 r2 B) A 0 s
def iter {α : Type} (f : α → α) : Nat → α → α
  | 0, a => a
  | k + 1, a => iter f k (f a)
def gsMu (s : GS) : Nat := pc (s.2.2 0) + pc (s.2.2 1) + pc (s.2.2 2) + pc (s.2.2 3) + pc (s.2.2 4) + pc (s.2.2 5) + pc (s.2.2 6) + pc (s.2.2 7)
def gsSet (s : GS) : Prop := ∀ k, s.2.2 k < 256
theorem gsMu_le {s : GS} (h : gsSet s) : gsMu s ≤ 64 := by
  have p : ∀ k, pc (s.2.2 k) ≤ 8 := fun k => pc_256 ⟨s.2.2 k, h k⟩
  have p0 := p 0; have p1 := p 1; have p2 := p 2; have p3 := p 3; have p4 := p 4; have p5 := p 5; have p6 := p 6; have p7 := p 7
  unfold gsMu
  omega
theorem pc_or : ∀ (M : Fin 256) (g : Fin 8), ¬ inS M.val g.val → M.val ||| 2 ^ g.val < 256 ∧ pc (M.val ||| 2 ^ g.val) = pc M.val + 1 := by decide +kernel
theorem gsBest_or {r1 : Nat → Nat → Int32 → Bool} {B a N : Nat} : gsBest r1 B a N = -1 ∨ ∃ b, b < B ∧ gsBest r1 B a N = nI b ∧ ¬ inS N b := by
  have := fo_inv (f := fun b f => if ¬ inS N b ∧ r1 a b f = true then nI b else f) (fun i f => f = -1 ∨ ∃ b, b < i ∧ f = nI b ∧ ¬ inS N b) B 0 (-1) (Or.inl rfl) (fun j f _ _ hf => by
    try simp only
    split
    · next c => exact Or.inr ⟨j, by omega, rfl, c.1⟩
    · exact hf.imp id (fun ⟨b, h1, h2⟩ => ⟨b, by omega, h2⟩))
  rw [Nat.zero_add] at this
  exact this
/-- an ask adds one to what was asked; no ask changes nothing -/
theorem gsAsk_mu {r1 r2 : Nat → Nat → Int32 → Bool} {A B a : Nat} {s : GS} (hA : A ≤ 8) (hB : B ≤ 8) (ha : a < A) (hs : gsSet s) : gsSet (gsAsk r1 r2 B a s) ∧ ((gsAsks r1 B a s ∧ gsMu (gsAsk r1 r2 B a s) = gsMu s + 1) ∨ (¬ gsAsks r1 B a s ∧ gsAsk r1 r2 B a s = s)) := by
  unfold gsAsk gsAsks
  by_cases c : s.1 a = -1
  · rw [if_pos c]
    rcases gsBest_or (r1 := r1) (B := B) (a := a) (N := s.2.2 a) with e | ⟨b, hb, e, hn⟩
    · rw [if_pos e]
      exact ⟨hs, Or.inr ⟨fun q => q.2 e, rfl⟩⟩
    · rw [e, if_neg (nI_nm1 (by omega)), cl8 (by omega)]
      have key := pc_or ⟨s.2.2 a, hs a⟩ ⟨b, by omega⟩ hn
      simp only at key
      have note : gsSet (gsNote a b s) ∧ gsMu (gsNote a b s) = gsMu s + 1 := by
        refine ⟨fun k => ?_, ?_⟩
        · show (if k = a then s.2.2 a ||| 2 ^ b else s.2.2 k) < 256
          split
          · exact key.1
          · exact hs k
        · unfold gsMu gsNote
          obtain rfl | rfl | rfl | rfl | rfl | rfl | rfl | rfl : a = 0 ∨ a = 1 ∨ a = 2 ∨ a = 3 ∨ a = 4 ∨ a = 5 ∨ a = 6 ∨ a = 7 := by omega
          all_goals simp
          all_goals omega
      have ne : ¬ nI b = -1 := nI_nm1 (by omega)
      split
      · exact ⟨note.1, Or.inl ⟨⟨c, ne⟩, note.2⟩⟩
      · exact ⟨note.1, Or.inl ⟨⟨c, ne⟩, note.2⟩⟩
  · rw [if_neg c]
    exact ⟨hs, Or.inr ⟨fun q => c q.1, rfl⟩⟩
/-- a round: nobody asks and nothing changes, or more was asked -/
theorem gsPass_mu {r1 r2 : Nat → Nat → Int32 → Bool} {A B : Nat} (hA : A ≤ 8) (hB : B ≤ 8) : ∀ (k i : Nat) (s : GS), i + k ≤ A → gsSet s → gsSet (fo (gsAsk r1 r2 B) k i s) ∧ ((fo (gsAsk r1 r2 B) k i s = s ∧ ∀ a, i ≤ a → a < i + k → ¬ gsAsks r1 B a s) ∨ gsMu s + 1 ≤ gsMu (fo (gsAsk r1 r2 B) k i s)) := by
  intro k
  induction k with
  | zero => intro i s _ hs; exact ⟨hs, Or.inl ⟨rfl, fun a h1 h2 => by omega⟩⟩
  | succ k ih =>
    intro i s hi hs
    obtain ⟨g1, g2⟩ := gsAsk_mu (r1 := r1) (r2 := r2) hA hB (show i < A by omega) hs
    obtain ⟨h1, h2⟩ := ih (i + 1) (gsAsk r1 r2 B i s) (by omega) g1
    refine ⟨h1, ?_⟩
    show (fo (gsAsk r1 r2 B) k (i + 1) (gsAsk r1 r2 B i s) = s ∧ _) ∨ gsMu s + 1 ≤ gsMu (fo (gsAsk r1 r2 B) k (i + 1) (gsAsk r1 r2 B i s))
    rcases g2 with ⟨-, g2⟩ | ⟨g0, g2⟩
    · right
      rcases h2 with ⟨h2, -⟩ | h2
      · rw [h2]; omega
      · omega
    · rw [g2] at h2 ⊢
      rcases h2 with ⟨h2, h3⟩ | h2
      · left
        refine ⟨h2, fun a q1 q2 => ?_⟩
        rcases Nat.eq_or_lt_of_le q1 with rfl | q3
        · exact g0
        · exact h3 a q3 (by omega)
      · exact Or.inr h2
theorem iter_fix {α : Type} {f : α → α} {a : α} (h : f a = a) : ∀ k, iter f k a = a := by
  intro k
  induction k with
  | zero => rfl
  | succ k ih => show iter f k (f a) = a; rw [h, ih]
theorem iter_add {α : Type} {f : α → α} : ∀ (j k : Nat) (a : α), iter f (j + k) a = iter f k (iter f j a) := by
  intro j
  induction j with
  | zero => intro k a; rw [Nat.zero_add]; rfl
  | succ j ih =>
    intro k a
    rw [show j + 1 + k = (j + k) + 1 by omega]
    exact ih k (f a)
/-- some round within 64 changes nothing, and all behind it is as it was -/
theorem gs_end {r1 r2 : Nat → Nat → Int32 → Bool} {A B : Nat} (hA : A ≤ 8) (hB : B ≤ 8) : ∀ (d : Nat) (s : GS), gsSet s → 64 - gsMu s ≤ d → ∃ j, j ≤ d ∧ (∀ a, a < A → ¬ gsAsks r1 B a (iter (gsPass r1 r2 A B) j s)) ∧ gsPass r1 r2 A B (iter (gsPass r1 r2 A B) j s) = iter (gsPass r1 r2 A B) j s ∧ ∀ i, i < j → gsMu (iter (gsPass r1 r2 A B) i s) + 1 ≤ gsMu (iter (gsPass r1 r2 A B) (i + 1) s) := by
  intro d
  induction d with
  | zero =>
    intro s hs hd
    obtain ⟨h1, h2⟩ := gsPass_mu (r1 := r1) (r2 := r2) hA hB A 0 s (by omega) hs
    have := gsMu_le h1
    have h0 := gsMu_le hs
    rcases h2 with ⟨h2, h3⟩ | h2
    · exact ⟨0, Nat.le_refl _, fun a ha => h3 a (Nat.zero_le _) (by omega), h2, fun i hi => absurd hi (Nat.not_lt_zero _)⟩
    · omega
  | succ d ih =>
    intro s hs hd
    obtain ⟨h1, h2⟩ := gsPass_mu (r1 := r1) (r2 := r2) hA hB A 0 s (by omega) hs
    have := gsMu_le h1
    rcases h2 with ⟨h2, h3⟩ | h2
    · exact ⟨0, Nat.zero_le _, fun a ha => h3 a (Nat.zero_le _) (by omega), h2, fun i hi => absurd hi (Nat.not_lt_zero _)⟩
    · obtain ⟨j, j1, j2, j3, j4⟩ := ih (gsPass r1 r2 A B s) h1 (by
        show 64 - gsMu (fo (gsAsk r1 r2 B) A 0 s) ≤ d
        omega)
      refine ⟨j + 1, by omega, j2, j3, fun i hi => ?_⟩
      cases i with
      | zero => exact h2
      | succ i => exact j4 i (by omega)
theorem gs_64 {r1 r2 : Nat → Nat → Int32 → Bool} {A B : Nat} {s : GS} {j : Nat} (hj : j ≤ 64) (h : gsPass r1 r2 A B (iter (gsPass r1 r2 A B) j s) = iter (gsPass r1 r2 A B) j s) : iter (gsPass r1 r2 A B) 64 s = iter (gsPass r1 r2 A B) j s := by
  rw [show 64 = j + (64 - j) by omega, iter_add]
  exact iter_fix h _
