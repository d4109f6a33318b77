/-! ===== PURE: saved: the search and the table ===== -/
/-- the most that can be put elsewhere from quarter q on, S being taken -/
def svF (act : Nat → Bool) (fit : Nat → Nat → Bool) : Nat → Nat → Nat → Nat
  | 0, _, _ => 0
  | k + 1, q, S => if act q = true then fo (fun t b => if (fit q t && !S.testBit t) = true then max b (1 + svF act fit k (q + 1) (S ||| 2 ^ t)) else b) 8 0 (svF act fit k (q + 1) S) else svF act fit k (q + 1) S
def mxO (a : Option Nat) (v : Nat) : Option Nat := match a with | none => some v | some u => some (max u v)
def stS (A : Nat → Option Nat) (fit : Nat → Bool) (S t : Nat) (a : Option Nat) : Option Nat := if (fit t && S.testBit t) = true then (match A (S - 2 ^ t) with | none => a | some v => mxO a (v + 1)) else a
/-- a row more of the table -/
def stA (A : Nat → Option Nat) (fit : Nat → Bool) (S : Nat) : Option Nat := fo (stS A fit S) 8 0 (A S)
def A0 : Nat → Option Nat := fun S => if S = 0 then some 0 else none
def Aq (act : Nat → Bool) (fit : Nat → Nat → Bool) (q : Nat) (A : Nat → Option Nat) : Nat → Option Nat := if act q = true then stA A (fit q) else A
def mxS (A : Nat → Option Nat) (S : Nat) (b : Nat) : Nat := match A S with | none => b | some v => max b v
def leO (a : Option Nat) (c B : Nat) : Prop := ∀ v, a = some v → v + c ≤ B
theorem mxO_le {a : Option Nat} {v c B : Nat} : leO (mxO a v) c B ↔ leO a c B ∧ v + c ≤ B := by
  unfold leO mxO
  cases a with
  | none => simp
  | some u =>
    simp only [Option.some.injEq, forall_eq']
    omega
theorem stS_le {A : Nat → Option Nat} {fit : Nat → Bool} {S t : Nat} {a : Option Nat} {c B : Nat} : leO (stS A fit S t a) c B ↔ leO a c B ∧ ((fit t && S.testBit t) = true → leO (A (S - 2 ^ t)) (c + 1) B) := by
  unfold stS
  by_cases z : (fit t && S.testBit t) = true
  · rw [if_pos z]
    cases hA : A (S - 2 ^ t) with
    | none => exact ⟨fun h => ⟨h, fun _ v hv => absurd hv (by simp)⟩, fun h => h.1⟩
    | some v =>
      rw [mxO_le]
      refine and_congr Iff.rfl ⟨fun h _ w hw => ?_, fun h => ?_⟩
      · cases hw; omega
      · have := h z v rfl; omega
  · rw [if_neg z]
    exact ⟨fun h => ⟨h, fun q => absurd q z⟩, fun h => h.1⟩
theorem stA_le {A : Nat → Option Nat} {fit : Nat → Bool} {S : Nat} {c B : Nat} : ∀ (k i : Nat) (a : Option Nat), leO (fo (stS A fit S) k i a) c B ↔ leO a c B ∧ ∀ t, i ≤ t → t < i + k → (fit t && S.testBit t) = true → leO (A (S - 2 ^ t)) (c + 1) B := by
  intro k
  induction k with
  | zero => intro i a; exact ⟨fun h => ⟨h, fun t h1 h2 => by omega⟩, fun h => h.1⟩
  | succ k ih =>
    intro i a
    show leO (fo (stS A fit S) k (i + 1) (stS A fit S i a)) c B ↔ _
    rw [ih, stS_le]
    constructor
    · rintro ⟨⟨h1, h2⟩, h3⟩
      refine ⟨h1, fun t t1 t2 t3 => ?_⟩
      by_cases z : t = i
      · subst z; exact h2 t3
      · exact h3 t (by omega) (by omega) t3
    · rintro ⟨h1, h2⟩
      exact ⟨⟨h1, fun t3 => h2 i (by omega) (by omega) t3⟩, fun t t1 t2 t3 => h2 t (by omega) (by omega) t3⟩
theorem svL {p : Nat → Bool} {g : Nat → Nat} {v B : Nat} : ∀ (k i b : Nat), v + fo (fun t b => if p t = true then max b (1 + g t) else b) k i b ≤ B ↔ v + b ≤ B ∧ ∀ t, i ≤ t → t < i + k → p t = true → v + 1 + g t ≤ B := by
  intro k
  induction k with
  | zero => intro i b; exact ⟨fun h => ⟨h, fun t h1 h2 => by omega⟩, fun h => h.1⟩
  | succ k ih =>
    intro i b
    show v + fo (fun t b => if p t = true then max b (1 + g t) else b) k (i + 1) (if p i = true then max b (1 + g i) else b) ≤ B ↔ _
    rw [ih]
    constructor
    · rintro ⟨h1, h3⟩
      refine ⟨?_, fun t t1 t2 t3 => ?_⟩
      · split at h1 <;> omega
      · by_cases z : t = i
        · subst z; rw [if_pos t3] at h1; omega
        · exact h3 t (by omega) (by omega) t3
    · rintro ⟨h1, h2⟩
      refine ⟨?_, fun t t1 t2 t3 => h2 t (by omega) (by omega) t3⟩
      split
      · next z => have := h2 i (by omega) (by omega) z; omega
      · exact h1
theorem bit_f : ∀ (S : Fin 256) (t : Fin 8), (S.val.testBit t.val = false → (S.val ||| 2 ^ t.val) < 256 ∧ (S.val ||| 2 ^ t.val).testBit t.val = true ∧ (S.val ||| 2 ^ t.val) - 2 ^ t.val = S.val) ∧ (S.val.testBit t.val = true → S.val - 2 ^ t.val < S.val ∧ (S.val - 2 ^ t.val).testBit t.val = false ∧ ((S.val - 2 ^ t.val) ||| 2 ^ t.val) = S.val) := by decide +kernel
theorem sv_step {act : Nat → Bool} {fit : Nat → Nat → Bool} {k q B : Nat} {A : Nat → Option Nat} : (∀ S, S < 256 → leO (A S) (svF act fit (k + 1) q S) B) ↔ ∀ S, S < 256 → leO (Aq act fit q A S) (svF act fit k (q + 1) S) B := by
  unfold Aq
  by_cases z : act q = true
  · rw [if_pos z]
    have e : ∀ S, svF act fit (k + 1) q S = fo (fun t b => if (fit q t && !S.testBit t) = true then max b (1 + svF act fit k (q + 1) (S ||| 2 ^ t)) else b) 8 0 (svF act fit k (q + 1) S) := fun S => by
      rw [svF, if_pos z]
    have e2 : ∀ S, leO (A S) (svF act fit (k + 1) q S) B ↔ leO (A S) (svF act fit k (q + 1) S) B ∧ ∀ t, t < 8 → (fit q t && !S.testBit t) = true → leO (A S) (svF act fit k (q + 1) (S ||| 2 ^ t) + 1) B := fun S => by
      rw [e]
      constructor
      · intro h
        refine ⟨fun v hv => ?_, fun t t1 t2 v hv => ?_⟩
        · exact ((svL (p := fun t => fit q t && !S.testBit t) (g := fun t => svF act fit k (q + 1) (S ||| 2 ^ t)) 8 0 _).1 (h v hv)).1
        · have := ((svL (p := fun t => fit q t && !S.testBit t) (g := fun t => svF act fit k (q + 1) (S ||| 2 ^ t)) 8 0 _).1 (h v hv)).2 t (by omega) (by omega) t2
          omega
      · rintro ⟨h1, h2⟩ v hv
        refine (svL (p := fun t => fit q t && !S.testBit t) (g := fun t => svF act fit k (q + 1) (S ||| 2 ^ t)) 8 0 _).2 ⟨h1 v hv, fun t t1 t2 t3 => ?_⟩
        have := h2 t (by omega) t3 v hv
        omega
    have e3 : ∀ S, leO (stA A (fit q) S) (svF act fit k (q + 1) S) B ↔ leO (A S) (svF act fit k (q + 1) S) B ∧ ∀ t, 0 ≤ t → t < 0 + 8 → (fit q t && S.testBit t) = true → leO (A (S - 2 ^ t)) (svF act fit k (q + 1) S + 1) B := fun S => stA_le 8 0 _
    constructor
    · intro h S hS
      rw [e3]
      refine ⟨((e2 S).1 (h S hS)).1, fun t _ t2 t3 => ?_⟩
      rw [Bool.and_eq_true] at t3
      have b1 := (bit_f ⟨S, hS⟩ ⟨t, by omega⟩).2 t3.2
      simp only [] at b1
      have := ((e2 (S - 2 ^ t)).1 (h _ (by omega))).2 t (by omega) (by rw [t3.1, b1.2.1]; rfl)
      rw [b1.2.2] at this
      exact this
    · intro h S hS
      rw [e2]
      refine ⟨((e3 S).1 (h S hS)).1, fun t t2 t3 => ?_⟩
      rw [Bool.and_eq_true] at t3
      have b0 : S.testBit t = false := by
        have := t3.2
        cases hb : S.testBit t with
        | false => rfl
        | true => rw [hb] at this; exact absurd this (by decide)
      have b1 := (bit_f ⟨S, hS⟩ ⟨t, t2⟩).1 b0
      simp only [] at b1
      have := ((e3 (S ||| 2 ^ t)).1 (h _ b1.1)).2 t (by omega) (by omega) (by rw [t3.1, b1.2.1]; rfl)
      rw [b1.2.2] at this
      exact this
  · rw [if_neg z]
    have e : ∀ S, svF act fit (k + 1) q S = svF act fit k (q + 1) S := fun S => by rw [svF, if_neg z]
    constructor
    · intro h S hS; have := h S hS; rw [e] at this; exact this
    · intro h S hS; rw [e]; exact h S hS
theorem sv_all {act : Nat → Bool} {fit : Nat → Nat → Bool} {B : Nat} : ∀ (k q : Nat) (A : Nat → Option Nat), (∀ S, S < 256 → leO (A S) (svF act fit k q S) B) ↔ ∀ S, S < 256 → leO (fo (Aq act fit) k q A S) 0 B := by
  intro k
  induction k with
  | zero => intro q A; exact Iff.rfl
  | succ k ih =>
    intro q A
    rw [sv_step]
    exact ih (q + 1) _
theorem mxS_le {A : Nat → Option Nat} {B : Nat} : ∀ (k i b : Nat), fo (mxS A) k i b ≤ B ↔ b ≤ B ∧ ∀ S, i ≤ S → S < i + k → leO (A S) 0 B := by
  intro k
  induction k with
  | zero => intro i b; exact ⟨fun h => ⟨h, fun t h1 h2 => by omega⟩, fun h => h.1⟩
  | succ k ih =>
    intro i b
    show fo (mxS A) k (i + 1) (mxS A i b) ≤ B ↔ _
    rw [ih]
    have e : mxS A i b ≤ B ↔ b ≤ B ∧ leO (A i) 0 B := by
      unfold mxS leO
      cases A i with
      | none => simp
      | some v =>
        simp only [Option.some.injEq, forall_eq']
        omega
    rw [e]
    constructor
    · rintro ⟨⟨h1, h2⟩, h3⟩
      refine ⟨h1, fun S s1 s2 => ?_⟩
      by_cases z : S = i
      · subst z; exact h2
      · exact h3 S (by omega) (by omega)
    · rintro ⟨h1, h2⟩
      exact ⟨⟨h1, h2 i (by omega) (by omega)⟩, fun S s1 s2 => h2 S (by omega) (by omega)⟩
/-- the search finds what the table tells -/
theorem sv_eq {act : Nat → Bool} {fit : Nat → Nat → Bool} : svF act fit 8 0 0 = fo (mxS (fo (Aq act fit) 8 0 A0)) 256 0 0 := by
  have h : ∀ B, svF act fit 8 0 0 ≤ B ↔ fo (mxS (fo (Aq act fit) 8 0 A0)) 256 0 0 ≤ B := fun B => by
    rw [mxS_le]
    have h0 := sv_all (act := act) (fit := fit) (B := B) 8 0 A0
    constructor
    · intro h
      refine ⟨Nat.zero_le _, fun S _ s2 => h0.1 (fun S2 hS2 v hv => ?_) S (by omega)⟩
      unfold A0 at hv
      split at hv
      · next z => cases hv; subst z; omega
      · cases hv
    · rintro ⟨_, h⟩
      have := h0.2 (fun S hS => h S (by omega) (by omega)) 0 (by omega) 0 rfl
      omega
  exact Nat.le_antisymm ((h _).2 (Nat.le_refl _)) ((h _).1 (Nat.le_refl _))
theorem svF_le {act : Nat → Bool} {fit : Nat → Nat → Bool} : ∀ (k q S : Nat), svF act fit k q S ≤ k := by
  intro k
  induction k with
  | zero => intro q S; exact Nat.le_refl _
  | succ k ih =>
    intro q S
    rw [svF]
    split
    · have := (svL (v := 0) (B := k + 1) (p := fun t => fit q t && !S.testBit t) (g := fun t => svF act fit k (q + 1) (S ||| 2 ^ t)) 8 0 (svF act fit k (q + 1) S)).2 ⟨by have := ih (q + 1) S; omega, fun t _ _ _ => by have := ih (q + 1) (S ||| 2 ^ t); omega⟩
      rw [Nat.zero_add] at this
      exact this
    · have := ih (q + 1) S; omega
theorem Aq_le {act : Nat → Bool} {fit : Nat → Nat → Bool} {q n : Nat} {A : Nat → Option Nat} (h : ∀ S, S < 256 → leO (A S) 0 n) : ∀ S, S < 256 → leO (Aq act fit q A S) 0 (n + 1) := by
  intro S hS
  unfold Aq
  split
  · refine (stA_le 8 0 _).2 ⟨fun v hv => by have := h S hS v hv; omega, fun t _ t2 t3 v hv => ?_⟩
    rw [Bool.and_eq_true] at t3
    have b1 := (bit_f ⟨S, hS⟩ ⟨t, by omega⟩).2 t3.2
    simp only [] at b1
    have := h (S - 2 ^ t) (by omega) v hv
    omega
  · intro v hv; have := h S hS v hv; omega
