/-! ===== PURE SIDE: no machine from here on. Words, loops, the row ===== -/
theorem p_ite {c A B : Prop} [Decidable c] (h : if c then A else B) : (c → A) ∧ (¬ c → B) := ⟨fun z => by rw [if_pos z] at h; exact h, fun z => by rw [if_neg z] at h; exact h⟩
theorem p_itn {c A B : Prop} [Decidable c] (h : if c then B else A) : (¬ c → A) ∧ (c → B) := ⟨fun z => by rw [if_neg z] at h; exact h, fun z => by rw [if_pos z] at h; exact h⟩
def b2i (c : Prop) [Decidable c] : Int32 := if c then 1 else 0
theorem b2i_t {c : Prop} [Decidable c] (h : c) : b2i c = 1 := if_pos h
theorem b2i_f {c : Prop} [Decidable c] (h : ¬ c) : b2i c = 0 := if_neg h
theorem b2i_0 {c : Prop} [Decidable c] : b2i c = 0 ↔ ¬ c := by
  unfold b2i
  split <;> simp_all
theorem b2i_1 {c : Prop} [Decidable c] : b2i c = 1 ↔ c := by
  unfold b2i
  split <;> simp_all
theorem p_bz {c A B : Prop} [Decidable c] (h : if c then B else A) : (b2i c = 0 → A) ∧ (¬ b2i c = 0 → B) :=
  ⟨fun z => by rw [if_neg (b2i_0.mp z)] at h; exact h, fun z => by rw [if_pos (Classical.byContradiction fun q => z (b2i_0.mpr q))] at h; exact h⟩
theorem p_bn {c A B : Prop} [Decidable c] (h : if c then B else A) : (¬ b2i c = 0 → B) ∧ (b2i c = 0 → A) := ⟨(p_bz h).2, (p_bz h).1⟩
theorem jz_b {c : Prop} [Decidable c] : jz (b2i c) := by
  unfold b2i jz
  split
  · exact Or.inr rfl
  · exact Or.inl rfl
theorem b2i_and {c d : Prop} [Decidable c] [Decidable d] {Q : Int32 → Prop} (h : Q (b2i (c ∧ d))) : if c then Q (b2i d) else Q 0 := by
  split
  · next z => rw [show b2i (c ∧ d) = b2i d by unfold b2i; simp [z]] at h; exact h
  · next z => rw [show b2i (c ∧ d) = 0 from b2i_f (fun q => z q.1)] at h; exact h
theorem b2i_if {c : Prop} [Decidable c] {Q : Int32 → Prop} (h : Q (b2i c)) : if c then Q 1 else Q 0 := by
  unfold b2i at h
  split <;> simp_all
/-- a loop that counts up and folds -/
def fo {α : Type} (step : Nat → α → α) : Nat → Nat → α → α
  | 0, _, a => a
  | k + 1, i, a => fo step k (i + 1) (step i a)
theorem fo_loop {α : Type} (W : Nat → α → Nat → Prop) (step : Nat → α → α) (P : α → Prop) (e : Nat) (hx : ∀ n a, P a → W (n + 1) a e) (hs : ∀ n a i, i < e → W n (step i a) (i + 1) → W (n + 1) a i) : ∀ (k i : Nat) (a : α), i + k = e → P (fo step k i a) → ∃ n, W n a i := by
  intro k
  induction k with
  | zero =>
    intro i a hi hP
    obtain rfl : i = e := hi
    exact ⟨1, hx 0 a hP⟩
  | succ k ih =>
    intro i a hi hP
    obtain ⟨n, hn⟩ := ih (i + 1) (step i a) (by omega) hP
    exact ⟨n + 1, hs n a i (by omega) hn⟩
theorem fo_congr {α : Type} {f g : Nat → α → α} : ∀ (k i : Nat) (a : α), (∀ j b, i ≤ j → j < i + k → f j b = g j b) → fo f k i a = fo g k i a := by
  intro k
  induction k with
  | zero => intro i a _; rfl
  | succ k ih =>
    intro i a h
    show fo f k (i + 1) (f i a) = fo g k (i + 1) (g i a)
    rw [h i a (Nat.le_refl _) (by omega)]
    exact ih (i + 1) _ (fun j b h1 h2 => h j b (by omega) (by omega))
/-- an invariant of a fold -/
theorem fo_inv {α : Type} {f : Nat → α → α} (I : Nat → α → Prop) : ∀ (k i : Nat) (a : α), I i a → (∀ j b, i ≤ j → j < i + k → I j b → I (j + 1) (f j b)) → I (i + k) (fo f k i a) := by
  intro k
  induction k with
  | zero => intro i a h _; exact h
  | succ k ih =>
    intro i a h hs
    have h2 := ih (i + 1) (f i a) (hs i a (Nat.le_refl _) (by omega) h) (fun j b h1 h2 => hs j b (by omega) (by omega))
    rw [show i + (k + 1) = i + 1 + k by omega]
    exact h2
/-- a loop that looks whether all are so (or leaves at the first that isn't) -/
def allB (p : Nat → Bool) : Nat → Nat → Bool
  | 0, _ => true
  | k + 1, i => p i && allB p k (i + 1)
theorem allB_iff {p : Nat → Bool} : ∀ {k i : Nat}, allB p k i = true ↔ ∀ j, i ≤ j → j < i + k → p j = true := by
  intro k
  induction k with
  | zero => intro i; exact ⟨fun _ j h1 h2 => by omega, fun _ => rfl⟩
  | succ k ih =>
    intro i
    show (p i && allB p k (i + 1)) = true ↔ _
    rw [Bool.and_eq_true, ih]
    constructor
    · intro h j h1 h2
      rcases Nat.eq_or_lt_of_le h1 with rfl | h3
      · exact h.1
      · exact h.2 j h3 (by omega)
    · intro h
      exact ⟨h i (Nat.le_refl _) (by omega), fun j h1 h2 => h j (by omega) (by omega)⟩
theorem all_loop (W : Nat → Nat → Prop) (p : Nat → Bool) (T F : Prop) (e : Nat) (hx : ∀ n, T → W (n + 1) e) (hs : ∀ n i, i < e → (if p i = true then W n (i + 1) else F) → W (n + 1) i) : ∀ (k i : Nat), i + k = e → (if allB p k i = true then T else F) → ∃ n, W n i := by
  intro k
  induction k with
  | zero =>
    intro i hi hP
    obtain rfl : i = e := hi
    exact ⟨1, hx 0 hP⟩
  | succ k ih =>
    intro i hi hP
    by_cases hp : p i = true
    · have h2 : allB p (k + 1) i = allB p k (i + 1) := by
        show (p i && allB p k (i + 1)) = _
        rw [hp, Bool.true_and]
      rw [h2] at hP
      obtain ⟨n, hn⟩ := ih (i + 1) (by omega) hP
      exact ⟨n + 1, hs n i (by omega) (by rw [if_pos hp]; exact hn)⟩
    · have h2 : allB p (k + 1) i = false := by
        show (p i && allB p k (i + 1)) = _
        rw [Bool.eq_false_iff.mpr hp, Bool.false_and]
      rw [h2] at hP
      exact ⟨1, hs 0 i (by omega) (by rw [if_neg hp]; simpa using hP)⟩
/-! ===== numbers ===== -/
theorem p_in {x : Int32} (n : Nat) {N : Nat} (hx : x = nI n) (h : n < N) (hN : N < 2 ^ 31 := by decide) : vp_in x N := by
  rw [hx]; exact vp_in_nI h hN
theorem p_cl {x : Int32} (n : Nat) (hx : x = nI n) (h : n < 2 ^ 31 := by omega) : x.toNatClampNeg = n := by
  rw [hx]; exact nI_clamp h
theorem p_at {x : Int32} {n N : Nat} {f : Nat → Int32} {Q : Int32 → Prop} (e : x = nI n) (h : n < N) (hN : N < 2 ^ 31) (hq : Q (f n)) : vp_in x N ∧ Q (f x.toNatClampNeg) := by
  subst e
  exact ⟨vp_in_nI h hN, by rw [nI_clamp (by omega)]; exact hq⟩
theorem p_ix (c a h : Nat) : nI c + nI a * nI h = nI (c + a * h) := by rw [pk_mul, nI_add]
theorem p_ix3 (c a h b : Nat) : nI c + nI a * nI h + nI b = nI (c + a * h + b) := by rw [p_ix, nI_add]
abbrev inI (v lo hi : Int32) : Prop := ¬ v < lo ∧ ¬ hi < v
abbrev isOf (a k : Int32) : Prop := ((a >>> (k &&& 31)) &&& (1 : Int32)) = (1 : Int32)
theorem inI_nat {v : Int32} {n : Nat} (hn : n < 2 ^ 31) : inI v 0 (nI n - 1) ↔ ∃ k, k < n ∧ v = nI k := by
  constructor
  · rintro ⟨h1, h2⟩
    obtain ⟨j, hj, rfl⟩ := nI_of h1
    refine ⟨j, ?_, rfl⟩
    cases n with
    | zero =>
      exfalso
      exact h2 (by
        have h3 : (0 : Int32) - 1 < nI j := by
          rw [Int32.lt_iff_toInt_lt, nI_toInt hj]
          have : ((0 : Int32) - 1).toInt = -1 := by decide
          omega
        exact h3)
    | succ n =>
      rw [show nI (n + 1) - (1 : Int32) = nI n from nI_pred n] at h2
      have h3 : ¬ n < j := fun q => h2 (nI_lt q hj)
      omega
  · rintro ⟨k, hk, rfl⟩
    cases n with
    | zero => omega
    | succ n =>
      refine ⟨nI_pos (by omega), ?_⟩
      rw [show nI (n + 1) - (1 : Int32) = nI n from nI_pred n]
      exact nI_nlt (by omega) (by omega)
theorem inI_lit {v : Int32} {n : Nat} (hn : n < 2 ^ 31) : inI v 0 (nI n) ↔ ∃ k, k ≤ n ∧ v = nI k := by
  constructor
  · rintro ⟨h1, h2⟩
    obtain ⟨j, hj, rfl⟩ := nI_of h1
    exact ⟨j, Nat.not_lt.mp fun q => h2 (nI_lt q hj), rfl⟩
  · rintro ⟨k, hk, rfl⟩
    exact ⟨nI_pos (by omega), nI_nlt hk hn⟩
/-! ===== the row of the twin: what a state is ===== -/
def nH (m : Nat → Int32) : Nat := (m 3).toNatClampNeg
def nG (m : Nat → Int32) : Nat := (m 4).toNatClampNeg
/-- what holds of a row at all times -/
def RowOk (m : Nat → Int32) : Prop :=
  (m 3 = nI (nH m) ∧ nH m ≤ 8 ∧ m 4 = nI (nG m) ∧ nG m ≤ 8) ∧
  (∀ k, k < 64 → ∃ r, r ≤ 9 ∧ m (67 + k) = nI r) ∧ (∀ k, k < 64 → ∃ r, r ≤ 9 ∧ m (131 + k) = nI r) ∧
  (∀ h g, h < 8 → g < 8 → (nH m ≤ h ∨ nG m ≤ g) → m (67 + 8 * h + g) = 5 ∧ m (131 + 8 * g + h) = 5) ∧
  (∀ h q, h < 8 → q < 8 → m (195 + 8 * h + q) = -1 ∨ ∃ g, g < nG m ∧ m (195 + 8 * h + q) = nI g) ∧
  (∀ h q, nH m ≤ h → h < 8 → q < 8 → m (195 + 8 * h + q) = -1) ∧
  (∀ h, h < nH m → ∃ r, r ≤ 9 ∧ m (11 + 4 * h) = nI r) ∧ (∀ h, h < nH m → ∃ r, r < 256 ∧ m (12 + 4 * h) = nI r) ∧
  (∀ g, g < nG m → ∃ r, 1 ≤ r ∧ r ≤ 4 ∧ m (43 + 3 * g) = nI r) ∧ (∀ g, g < nG m → ∃ r, r < 256 ∧ m (44 + 3 * g) = nI r) ∧ (∀ g, g < nG m → ∃ r, r < 64 ∧ m (45 + 3 * g) = nI r) ∧
  (∃ r, r ≤ 60 ∧ m 9 = nI r) ∧ (∃ r, r ≤ 100 ∧ m 5 = nI r) ∧ (∃ r, r ≤ 12 ∧ m 0 = nI r)
theorem RowOk.H {m : Nat → Int32} (h : RowOk m) : m 3 = nI (nH m) := h.1.1
theorem RowOk.H8 {m : Nat → Int32} (h : RowOk m) : nH m ≤ 8 := h.1.2.1
theorem RowOk.G {m : Nat → Int32} (h : RowOk m) : m 4 = nI (nG m) := h.1.2.2.1
theorem RowOk.G8 {m : Nat → Int32} (h : RowOk m) : nG m ≤ 8 := h.1.2.2.2
abbrev isHostP (m : Nat → Int32) (h : Int32) : Prop := inI h 0 (m 3 - 1)
abbrev isGuestP (m : Nat → Int32) (g : Int32) : Prop := inI g 0 (m 4 - 1)
abbrev isQuarterP (q : Int32) : Prop := inI q 0 7
theorem RowOk.host {m : Nat → Int32} (hR : RowOk m) {h : Int32} (hh : isHostP m h) : ∃ k, k < nH m ∧ k < 8 ∧ h = nI k := by
  unfold isHostP at hh
  rw [hR.H] at hh
  obtain ⟨k, h1, h2⟩ := (inI_nat (by have := hR.H8; omega)).mp hh
  exact ⟨k, h1, by have := hR.H8; omega, h2⟩
theorem RowOk.guest {m : Nat → Int32} (hR : RowOk m) {g : Int32} (hg : isGuestP m g) : ∃ k, k < nG m ∧ k < 8 ∧ g = nI k := by
  unfold isGuestP at hg
  rw [hR.G] at hg
  obtain ⟨k, h1, h2⟩ := (inI_nat (by have := hR.G8; omega)).mp hg
  exact ⟨k, h1, by have := hR.G8; omega, h2⟩
theorem quarter_nat {q : Int32} (hq : isQuarterP q) : ∃ k, k < 8 ∧ q = nI k := by
  obtain ⟨k, h1, h2⟩ := (inI_lit (n := 7) (by decide)).mp hq
  exact ⟨k, by omega, h2⟩
/-! ===== what the row says ===== -/
abbrev f_may (m : Nat → Int32) (h g : Nat) : Prop := ¬ m (67 + 8 * h + g) ≤ 0 ∧ ¬ m (131 + 8 * g + h) ≤ 0
abbrev f_can (m : Nat → Int32) (h g : Nat) (q : Int32) : Prop := isOf (m (12 + 4 * h) &&& m (44 + 3 * g)) q ∧ f_may m h g
abbrev f_marked (m : Nat → Int32) (marks : Int32) : Prop := (marks &&& m 7) = m 7 ∧ (marks &&& m 8) = 0
def f_busy (m : Nat → Int32) (g : Int32) : Int32 := fo (fun h a => fo (fun q a => a ||| (if m (195 + 8 * h + q) = g then (1 : Int32) <<< (nI q &&& 31) else 0)) 8 0 a) (nH m) 0 0
def f_sees (m : Nat → Int32) (h : Nat) : Int32 := fo (fun q a => a ||| (if m (195 + 8 * h + q) = -1 then 0 else (1 : Int32) <<< (m (195 + 8 * h + q) &&& 31))) 8 0 0
def f_free (m : Nat → Int32) (h : Nat) : Int32 := fo (fun q a => if m (195 + 8 * h + q) = -1 then a else a &&& (((1 : Int32) <<< (nI q &&& 31)) ^^^ (-1 : Int32))) 8 0 (m (12 + 4 * h))
def f_bookings (m : Nat → Int32) : Int32 := fo (fun h a => fo (fun q a => a + (if m (195 + 8 * h + q) = -1 then 0 else 1)) 8 0 a) (nH m) 0 0
def f_gladness (m : Nat → Int32) : Int32 := fo (fun h a => a + m (13 + 4 * h)) (nH m) 0 0
def f_liked (m : Nat → Int32) (g : Nat) : Int32 := fo (fun h a => a + m (67 + 8 * h + g)) (nH m) 0 0
