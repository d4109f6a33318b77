/-! ===== PURE: afternoon and lend: the same table ===== -/
def mxo (o : Option Nat) (n : Nat) : Nat := match o with | none => n | some v => if n < v then v else n
def eno (o : Option Nat) : Int32 := match o with | none => -1 | some v => nI v
abbrev inS (S b : Nat) : Prop := S / 2 ^ b % 2 = 1
def dpV (br : Nat → Nat → Option Nat) (D : Nat → Nat) (a S b : Nat) : Option Nat := if inS S b then none else match br a b with | none => none | some v => some (v + D (S ||| 2 ^ b))
def dpN (br : Nat → Nat → Option Nat) (D : Nat → Nat) (B a S : Nat) : Nat := fo (fun b n => mxo (dpV br D a S b) n) B 0 (D S)
def dp (br : Nat → Nat → Option Nat) (A B : Nat) : Nat → Nat → Nat
  | 0, _ => 0
  | k + 1, S => dpN br (dp br A B k) B (A - (k + 1)) S
theorem set_or : ∀ (S : Fin 256) (b : Fin 8), nI S.val ||| ((1 : Int32) <<< (nI b.val &&& 31)) = nI (S.val ||| 2 ^ b.val) ∧ S.val ||| 2 ^ b.val < 256 ∧ (isOf (nI S.val) (nI b.val) ↔ inS S.val b.val) := by decide +kernel
theorem dpN_le {br : Nat → Nat → Option Nat} {D : Nat → Nat} {B a S M : Nat} (hb : ∀ a b v, br a b = some v → v ≤ 9) (hD : ∀ S, D S ≤ M) : ∀ i, fo (fun b n => mxo (dpV br D a S b) n) i 0 (D S) ≤ M + 9 := by
  intro i
  have := fo_inv (f := fun b n => mxo (dpV br D a S b) n) (fun _ n => n ≤ M + 9) i 0 (D S) (Nat.le_trans (hD S) (Nat.le_add_right _ _)) (fun b n _ _ hn => by
    unfold mxo dpV
    have h := hb a b
    have h2 := hD (S ||| 2 ^ b)
    by_cases c : inS S b
    · rw [if_pos c]; exact hn
    · rw [if_neg c]
      cases e : br a b with
      | none => exact hn
      | some v =>
        have := h v e
        show (if n < v + D (S ||| 2 ^ b) then v + D (S ||| 2 ^ b) else n) ≤ M + 9
        split <;> omega)
  exact this
theorem dp_le {br : Nat → Nat → Option Nat} {A B : Nat} (hb : ∀ a b v, br a b = some v → v ≤ 9) : ∀ k S, dp br A B k S ≤ 9 * k := by
  intro k
  induction k with
  | zero => intro S; exact Nat.le_refl _
  | succ k ih =>
    intro S
    exact dpN_le (B := B) hb ih B
theorem mxo_le {o : Option Nat} {n M : Nat} (hn : n ≤ M) (ho : ∀ v, o = some v → v ≤ M) : mxo o n ≤ M := by
  unfold mxo
  cases o with
  | none => exact hn
  | some v =>
    have := ho v rfl
    show (if n < v then v else n) ≤ M
    split <;> omega
theorem dpV_le {br : Nat → Nat → Option Nat} {D : Nat → Nat} {a S b M : Nat} (hb : ∀ a b v, br a b = some v → v ≤ 9) (hD : ∀ S, D S ≤ M) : ∀ v, dpV br D a S b = some v → v ≤ M + 9 := by
  intro v h
  unfold dpV at h
  by_cases c : inS S b
  · rw [if_pos c] at h; exact absurd h (by simp)
  · rw [if_neg c] at h
    cases e : br a b with
    | none => rw [e] at h; exact absurd h (by simp)
    | some w =>
      rw [e] at h
      have h2 := hb a b w e
      have h3 := hD (S ||| 2 ^ b)
      have h4 : w + D (S ||| 2 ^ b) = v := Option.some.inj h
      omega
theorem dpN_ex {br : Nat → Nat → Option Nat} {D : Nat → Nat} {B a S : Nat} (h : ¬ D S = dpN br D B a S) : ∃ b, b < B ∧ dpV br D a S b = some (dpN br D B a S) := by
  have := fo_inv (f := fun b n => mxo (dpV br D a S b) n) (fun i n => n = D S ∨ ∃ b, b < i ∧ dpV br D a S b = some n) B 0 (D S) (Or.inl rfl) (fun j n _ _ hn => by
    try simp only
    unfold mxo
    have keep : n = D S ∨ ∃ b, b < j + 1 ∧ dpV br D a S b = some n := hn.imp id (fun ⟨b, h1, h2⟩ => ⟨b, by omega, h2⟩)
    cases e : dpV br D a S j with
    | none => exact keep
    | some v =>
      show (if n < v then v else n) = D S ∨ ∃ b, b < j + 1 ∧ dpV br D a S b = some (if n < v then v else n)
      split
      · exact Or.inr ⟨j, by omega, e⟩
      · exact keep)
  rw [Nat.zero_add] at this
  rcases this with h2 | h2
  · exact absurd h2.symm h
  · exact h2
def fstB (p : Nat → Bool) : Nat → Nat → Int32
  | 0, _ => -1
  | k + 1, i => if p i = true then nI i else fstB p k (i + 1)
theorem fstB_ex {p : Nat → Bool} : ∀ {k i : Nat}, (∃ b, i ≤ b ∧ b < i + k ∧ p b = true) → ∃ b, b < i + k ∧ p b = true ∧ fstB p k i = nI b := by
  intro k
  induction k with
  | zero => rintro i ⟨b, h1, h2, -⟩; omega
  | succ k ih =>
    rintro i ⟨b, h1, h2, h3⟩
    by_cases c : p i = true
    · exact ⟨i, by omega, c, if_pos c⟩
    · obtain ⟨b', e1, e2, e3⟩ := ih (i := i + 1) ⟨b, by
        rcases Nat.eq_or_lt_of_le h1 with rfl | h4
        · exact absurd h3 c
        · exact h4, by omega, h3⟩
      exact ⟨b', by omega, e2, (if_neg c).trans e3⟩
theorem fstB_down (p : Nat → Bool) (B : Nat) : fo (fun j f => if p (B - 1 - j) = true then nI (B - 1 - j) else f) B 0 (-1) = fstB p B 0 := by
  have := fo_inv (f := fun j f => if p (B - 1 - j) = true then nI (B - 1 - j) else f) (fun i f => i ≤ B → f = fstB p i (B - i)) B 0 (-1) (fun _ => rfl) (fun j b _ h2 hb h3 => by
    have hb := hb (by omega)
    subst hb
    show (if p (B - 1 - j) = true then nI (B - 1 - j) else fstB p j (B - j)) = (if p (B - (j + 1)) = true then nI (B - (j + 1)) else fstB p j (B - (j + 1) + 1))
    rw [show B - (j + 1) = B - 1 - j by omega, show B - 1 - j + 1 = B - j by omega])
  rw [Nat.zero_add] at this
  rw [this (Nat.le_refl _), Nat.sub_self]
def isV (o : Option Nat) (d : Nat) : Bool := decide (o = some d)
/-- whom one takes, and what is taken then -/
def dpCh (br : Nat → Nat → Option Nat) (A B a S : Nat) : Int32 := if dp br A B (A - (a + 1)) S = dp br A B (A - a) S then -1 else fstB (fun b => isV (dpV br (dp br A B (A - (a + 1))) a S b) (dp br A B (A - a) S)) B 0
def dpSt (br : Nat → Nat → Option Nat) (A B a : Nat) (z : Nat × Int32) : Nat × Int32 := (if dpCh br A B a z.1 = -1 then z.1 else z.1 ||| 2 ^ (dpCh br A B a z.1).toNatClampNeg, dpCh br A B a z.1)
def dpWith (br : Nat → Nat → Option Nat) (A B one : Nat) : Int32 := (fo (dpSt br A B) (one + 1) 0 (0, -1)).2
theorem dpCh_or {br : Nat → Nat → Option Nat} {A B a S : Nat} (ha : a < A) : (dp br A B (A - (a + 1)) S = dp br A B (A - a) S ∧ dpCh br A B a S = -1) ∨ (¬ dp br A B (A - (a + 1)) S = dp br A B (A - a) S ∧ ∃ b, b < B ∧ isV (dpV br (dp br A B (A - (a + 1))) a S b) (dp br A B (A - a) S) = true ∧ dpCh br A B a S = nI b ∧ fstB (fun b => isV (dpV br (dp br A B (A - (a + 1))) a S b) (dp br A B (A - a) S)) B 0 = nI b) := by
  unfold dpCh
  by_cases c : dp br A B (A - (a + 1)) S = dp br A B (A - a) S
  · exact Or.inl ⟨c, if_pos c⟩
  · refine Or.inr ⟨c, ?_⟩
    have e : A - a = (A - (a + 1)) + 1 := by omega
    have c2 : ¬ dp br A B (A - (a + 1)) S = dpN br (dp br A B (A - (a + 1))) B a S := by
      rw [e] at c
      change ¬ _ = dpN br _ B (A - (A - (a + 1) + 1)) S at c
      rw [show A - (A - (a + 1) + 1) = a by omega] at c
      exact c
    have e2 : dp br A B (A - a) S = dpN br (dp br A B (A - (a + 1))) B a S := by
      rw [e]
      show dpN br _ B (A - (A - (a + 1) + 1)) S = _
      rw [show A - (A - (a + 1) + 1) = a by omega]
    obtain ⟨b, hb, eb⟩ := dpN_ex c2
    obtain ⟨b', h1, h2, h3⟩ := fstB_ex (p := fun b => isV (dpV br (dp br A B (A - (a + 1))) a S b) (dp br A B (A - a) S)) (k := B) (i := 0) ⟨b, Nat.zero_le _, by omega, by
      rw [e2]
      exact decide_eq_true eb⟩
    exact ⟨b', by omega, h2, (if_neg c).trans h3, h3⟩
/-- the table of the twin, or of the component, from a on -/
def TabAt (V : Nat → Nat → Int32) (r a : Nat) (D : Nat → Nat) : Prop := ∀ S, S < 256 → V r (256 * a + S) = nI (D S)
section PD
variable {x t : Nat} {V : Nat → Nat → Int32} {m T : Nat → Int32} {L : Nat} {Q : Int32 → Prop} {Q0 : (Nat → Nat → Int32) → Prop} {Q2 : Int32 → (Nat → Nat → Int32) → Prop} {P : Prop} {X : String → (Nat → Nat → Int32) → Prop} {br : Nat → Nat → Option Nat} {A B : Nat}
theorem s6_greater {u v : Nat} (hu : u < 2 ^ 31) (hv : v < 2 ^ 31) (hq : Q (nI (if u < v then v else u))) : wX6_greater (nI u) (nI v) Q := by
  refine br_c (fun z => ?_) (fun z => ?_)
  · have z2 := (nI_leI hu hv).mp z
    by_cases c : u < v
    · rw [if_pos c] at hq; exact hq
    · rw [if_neg c, show u = v by omega] at hq; exact hq
  · rw [if_neg (fun q => z (nI_le (Nat.le_of_lt q) hv))] at hq; exact hq
theorem ix_256 (a S : Nat) : (256 : Int32) * nI a + nI S = nI (256 * a + S) := by rw [show (256 : Int32) = nI 256 from rfl, pk_mul, nI_add]
theorem in_2304 {a S : Nat} (ha : a ≤ 8) (hS : S < 256) : vp_in (nI (256 * a + S)) 2304 := vp_in_nI (by omega) (by decide)
theorem s6_fills {a3 a4 : Int32} (hA : A ≤ 8) (hB : B ≤ 8) (h9 : ∀ a b v, br a b = some v → v ≤ 9) (hbr : ∀ V1 : Nat → Nat → Int32, (∀ r, r ≠ t + 11 → V1 r = V r) → ∀ a b, a < A → b < B → ∀ Q : Int32 → Prop, Q (eno (br a b)) → wX6_brings t V1 (nI a) (nI b) a3 a4 Q) (hq : ∀ V', (∀ a, a ≠ t + 11 → V' a = V a) → (∀ a, a ≤ A → TabAt V' (t + 11) a (dp br A B (A - a))) → Q0 V') : wX6_fills t V (nI A) (nI B) a3 a4 Q0 := by
  refine ⟨256 + 1, vloop (fun n V1 S => wX6_fills_3 t (nI A) (nI B) a3 a4 Q0 n V1 (nI S)) (fun i V1 => (∀ a, a ≠ t + 11 → V1 a = V a) ∧ ∀ S, S < i → V1 (t + 11) (256 * A + S) = nI 0) 256 ?_ ?_ 256 0 V rfl ⟨fun _ _ => rfl, fun S hS => absurd hS (Nat.not_lt_zero _)⟩⟩
  · rintro n V1 ⟨i1, i2⟩
    rw [wX6_fills_3]
    refine br_t (Int32.le_refl _) (nm_e ⟨A + 1, ?_⟩)
    refine vloop (fun n V1 j => wX6_fills_36 t (nI A) (nI B) a3 a4 Q0 n V1 (nI (A - j) - 1)) (fun j V1 => (∀ a, a ≠ t + 11 → V1 a = V a) ∧ ∀ a, A - j ≤ a → a ≤ A → TabAt V1 (t + 11) a (dp br A B (A - a))) A ?_ ?_ A 0 V1 (Nat.zero_add _) ⟨i1, fun a h1 h2 => ?_⟩
    · rintro n V2 ⟨j1, j2⟩
      rw [wX6_fills_36, Nat.sub_self]
      exact br_t (by decide) (hq V2 j1 (fun a ha => j2 a (by omega) ha))
    · rintro n V2 j hj ⟨j1, j2⟩ hk
      have en : nI (A - j) - 1 = nI (A - (j + 1)) := by rw [show A - j = (A - (j + 1)) + 1 by omega, nI_pred]
      have en2 : nI (A - (j + 1)) + (-1 : Int32) = nI (A - (j + 1)) - 1 := by rw [Int32.sub_eq_add_neg]
      have e9 := dp_le (br := br) (A := A) (B := B) h9 j
      have eD : ∀ S, dp br A B (j + 1) S = dpN br (dp br A B j) B (A - (j + 1)) S := fun _ => rfl
      have tj : TabAt V2 (t + 11) (A - (j + 1) + 1) (dp br A B j) := by
        have := j2 (A - j) (by omega) (by omega)
        rw [show A - (A - j) = j by omega] at this
        rw [show A - (j + 1) + 1 = A - j by omega]
        exact this
      have ea : ∀ a, A - (j + 1) < a → a ≤ A → A - j ≤ a := fun a h1 h2 => by omega
      have a0 : A - (A - (j + 1)) = j + 1 := by omega
      have ha : A - (j + 1) < A := by omega
      rw [wX6_fills_36, en]
      generalize A - (j + 1) = a at *
      generalize hDe : dp br A B j = D at *
      refine br_f (nI_pos (by omega)) ⟨256 + 1, ?_⟩
      refine vloop (fun n2 V1 S => wX6_fills_44 t (nI A) (nI B) a3 a4 Q0 (fun V x5 => wX6_fills_36 t (nI A) (nI B) a3 a4 Q0 n V x5) n2 V1 (nI a) (nI S)) (fun i V1 => (∀ r, r ≠ t + 11 → V1 r = V r) ∧ (∀ k, 256 * (a + 1) ≤ k → V1 (t + 11) k = V2 (t + 11) k) ∧ ∀ S, S < i → V1 (t + 11) (256 * a + S) = nI (dpN br D B a S)) 256 ?_ ?_ 256 0 V2 rfl ⟨j1, fun _ _ => rfl, fun S hS => absurd hS (Nat.not_lt_zero _)⟩
      · rintro n2 V3 ⟨k1, k2, k3⟩
        rw [wX6_fills_44]
        refine br_t (Int32.le_refl _) (nm_r en2 (hk V3 ⟨k1, fun a' h1 h2 => ?_⟩))
        by_cases c : a' = a
        · rw [c, a0]
          intro S hS
          rw [k3 S hS, eD]
        · intro S hS
          rw [k2 _ (by omega)]
          exact j2 a' (ea a' (by omega) h2) h2 S hS
      · rintro n2 V3 S hS ⟨k1, k2, k3⟩ hk2
        have row : ∀ S, S < 256 → V3 (t + 11) (256 * (a + 1) + S) = nI (D S) := fun S hS => by rw [k2 _ (by omega)]; exact tj S hS
        rw [wX6_fills_44, nI_1, ix_256, nI_clamp (show 256 * (a + 1) + S < 2 ^ 31 by omega), row S hS]
        refine br_f (nI_ge hS (by decide)) ⟨in_2304 (by omega) hS, nm_e ?_⟩
        refine fo_loopI (fun n3 v b => wX6_fills_73 t (nI A) (nI B) a3 a4 Q0 (fun V x5 => wX6_fills_36 t (nI A) (nI B) a3 a4 Q0 n V x5) (fun V x5 x6 => wX6_fills_44 t (nI A) (nI B) a3 a4 Q0 (fun V x5 => wX6_fills_36 t (nI A) (nI B) a3 a4 Q0 n V x5) n2 V x5 x6) n3 V3 (nI a) (nI S) (nI v) (nI b)) (fun b v => mxo (dpV br D a S b) v) (fun v => v = dpN br D B a S) (fun _ v => v ≤ 9 * j + 9) B ?_ (fun b v _ hv => mxo_le hv (dpV_le h9 e9)) ?_ B 0 (D S) (Nat.zero_add _) (Nat.le_trans (e9 S) (Nat.le_add_right _ _)) rfl
        · rintro n3 v rfl
          rw [wX6_fills_73, ix_256, nI_clamp (show 256 * a + S < 2 ^ 31 by omega)]
          refine br_t (Int32.le_refl _) ⟨in_2304 (by omega) hS, nm_r (nI_1 S) (hk2 _ ⟨fun r hr => by rw [vset_n _ _ _ hr]; exact k1 r hr, fun k h => by rw [vset_s, pk_un (by omega)]; exact k2 k h, fun S' hS' => ?_⟩)⟩
          rw [vset_s]
          by_cases c : S' = S
          · rw [c, pk_us]
          · rw [pk_un (by omega)]; exact k3 S' (by omega)
        · intro n3 v b hb hv hk3
          obtain ⟨o1, o2, o3⟩ := set_or ⟨S, hS⟩ ⟨b, by omega⟩
          simp only at o1 o2 o3
          have f104 : ∀ s0 : Int32, s0 = eno (if inS S b then none else br a b) → wX6_fills_104 t (nI A) (nI B) a3 a4 Q0 (fun V x5 => wX6_fills_36 t (nI A) (nI B) a3 a4 Q0 n V x5) (fun V x5 x6 => wX6_fills_44 t (nI A) (nI B) a3 a4 Q0 (fun V x5 => wX6_fills_36 t (nI A) (nI B) a3 a4 Q0 n V x5) n2 V x5 x6) (fun V x5 x6 x7 x8 => wX6_fills_73 t (nI A) (nI B) a3 a4 Q0 (fun V x5 => wX6_fills_36 t (nI A) (nI B) a3 a4 Q0 n V x5) (fun V x5 x6 => wX6_fills_44 t (nI A) (nI B) a3 a4 Q0 (fun V x5 => wX6_fills_36 t (nI A) (nI B) a3 a4 Q0 n V x5) n2 V x5 x6) n3 V x5 x6 x7 x8) V3 (nI a) (nI S) (nI v) (nI b) s0 := by
            rintro s0 rfl
            unfold dpV at hk3
            unfold wX6_fills_104
            rw [o1, nI_1 a, ix_256, nI_clamp (show 256 * (a + 1) + (S ||| 2 ^ b) < 2 ^ 31 by omega), row _ o2]
            by_cases c : inS S b
            · rw [if_pos c] at hk3 ⊢
              exact br_t rfl (nm_r (nI_1 b) hk3)
            · rw [if_neg c] at hk3 ⊢
              cases e : br a b with
              | none =>
                rw [e] at hk3
                exact br_t rfl (nm_r (nI_1 b) hk3)
              | some w =>
                rw [e] at hk3
                have hw := h9 a b w e
                have hD := e9 (S ||| 2 ^ b)
                show (nI w = -1 → _) ∧ (¬ nI w = -1 → _ ∧ wX6_greater (nI v) (nI w + nI (D (S ||| 2 ^ b))) _)
                rw [nI_add]
                refine br_f (nI_nm1 (by omega)) ⟨in_2304 (by omega) o2, s6_greater (by omega) (by omega) (nm_r (nI_1 b) hk3)⟩
          rw [wX6_fills_73]
          refine br_f (nI_ge hb (by omega)) (s6_isOf (p_bz ?_))
          split
          · next z =>
            exact f104 _ (by rw [if_pos (o3.mp z)]; rfl)
          · next z =>
            exact hbr V3 k1 a b ha hb _ (f104 _ (by rw [if_neg (fun q => z (o3.mpr q))]))
    · intro S hS
      rw [show a = A by omega, Nat.sub_self]
      exact i2 S hS
  · rintro n V1 S hS ⟨i1, i2⟩ hk
    rw [wX6_fills_3, ix_256, nI_clamp (show 256 * A + S < 2 ^ 31 by omega)]
    refine br_f (nI_ge hS (by decide)) ⟨in_2304 hA hS, nm_r (nI_1 S) (hk _ ⟨fun a ha => by rw [vset_n _ _ _ ha]; exact i1 a ha, fun S' hS' => ?_⟩)⟩
    rw [vset_s]
    by_cases c : S' = S
    · rw [c, pk_us]; rfl
    · rw [pk_un (by omega)]; exact i2 S' (by omega)
theorem s6_firstOf {a3 a4 : Int32} {one : Nat} (ho : one < A) (hA : A ≤ 8) (hB : B ≤ 8) (h9 : ∀ a b v, br a b = some v → v ≤ 9) (hbr : ∀ a b, a < A → b < B → ∀ Q : Int32 → Prop, Q (eno (br a b)) → wX6_brings t V (nI a) (nI b) a3 a4 Q) (hV : ∀ a, a ≤ A → TabAt V (t + 11) a (dp br A B (A - a))) (hq : Q (dpWith br A B one)) : wX6_firstOf t V (nI one) (nI B) a3 a4 Q := by
  refine fo_loopI (fun n (z : Nat × Int32) a => wX6_firstOf_9 t V (nI one) (nI B) a3 a4 Q n (nI z.1) z.2 (nI a)) (dpSt br A B) (fun z => Q z.2) (fun _ z => z.1 < 256) (one + 1) ?_ ?_ ?_ (one + 1) 0 (0, -1) (Nat.zero_add _) (by decide) hq
  · intro n z hP
    rw [wX6_firstOf_9]
    exact br_t (nI_lt (by omega) (by omega)) hP
  · intro a z ha hz
    unfold dpSt
    try simp only
    rcases dpCh_or (br := br) (A := A) (B := B) (S := z.1) (show a < A by omega) with ⟨-, e⟩ | ⟨-, b, hb, -, e, -⟩
    · rw [if_pos e]; exact hz
    · rw [e, if_neg (nI_nm1 (by omega)), cl8 (by omega)]
      exact (set_or ⟨z.1, hz⟩ ⟨b, by omega⟩).2.1
  · rintro n ⟨S, f⟩ a ha hS hk
    simp only at hS
    have t1 : V (t + 11) (256 * (a + 1) + S) = nI (dp br A B (A - (a + 1)) S) := hV (a + 1) (by omega) S hS
    have t0 : V (t + 11) (256 * a + S) = nI (dp br A B (A - a) S) := hV a (by omega) S hS
    have l1 := dp_le (br := br) (A := A) (B := B) h9 (A - (a + 1)) S
    have l0 := dp_le (br := br) (A := A) (B := B) h9 (A - a) S
    rw [wX6_firstOf_9, nI_1, ix_256, ix_256, nI_clamp (show 256 * (a + 1) + S < 2 ^ 31 by omega), nI_clamp (show 256 * a + S < 2 ^ 31 by omega), t1, t0]
    refine br_f (nI_nlt (by omega) (by omega)) ⟨in_2304 (by omega) hS, in_2304 (by omega) hS, ?_⟩
    unfold dpSt at hk
    rcases dpCh_or (br := br) (A := A) (B := B) (S := S) (show a < A by omega) with ⟨e0, e⟩ | ⟨e0, b0, hb0, -, e, ef⟩
    · simp only at hk
      rw [e, if_pos rfl] at hk
      exact ⟨fun z => absurd (by rw [e0]) z, fun _ => nm_e hk⟩
    · refine ⟨fun _ => nm_e ?_, fun z => absurd ((nI_eq (by omega) (by omega)).mp z) e0⟩
      obtain ⟨o1, o2, -⟩ := set_or ⟨S, hS⟩ ⟨b0, by omega⟩
      simp only at hk o1 o2
      rw [e, if_neg (nI_nm1 (by omega)), cl8 (by omega)] at hk
      rw [← fstB_down] at ef
      refine fo_loop (fun n2 (f : Int32) j => wX6_firstOf_59 t V (nI one) (nI B) a3 a4 Q (fun x5 x6 x7 => wX6_firstOf_9 t V (nI one) (nI B) a3 a4 Q n x5 x6 x7) n2 (nI S) f (nI a) (nI (B - j) - 1)) (fun j f => if isV (dpV br (dp br A B (A - (a + 1))) a S (B - 1 - j)) (dp br A B (A - a) S) = true then nI (B - 1 - j) else f) (fun f => f = nI b0) B ?_ ?_ B 0 (-1) (Nat.zero_add _) ef
      · rintro n2 f rfl
        rw [wX6_firstOf_59, Nat.sub_self, o1]
        exact br_t (by decide) (nm_e (nm_r (nI_1 a) hk))
      · intro n2 f j hj hk2
        have en : nI (B - j) - 1 = nI (B - 1 - j) := by rw [show B - j = (B - 1 - j) + 1 by omega, nI_pred]
        have en2 : nI (B - 1 - j) + (-1 : Int32) = nI (B - (j + 1)) - 1 := by rw [show B - (j + 1) = B - 1 - j by omega, Int32.sub_eq_add_neg]
        have hbB : B - 1 - j < B := by omega
        rw [wX6_firstOf_59, en]
        generalize B - 1 - j = b at *
        obtain ⟨o1, o2, o3⟩ := set_or ⟨S, hS⟩ ⟨b, by omega⟩
        simp only at o1 o2 o3
        have f89 : ∀ s0 : Int32, s0 = eno (if inS S b then none else br a b) → wX6_firstOf_89 t V (nI one) (nI B) a3 a4 Q (fun x5 x6 x7 => wX6_firstOf_9 t V (nI one) (nI B) a3 a4 Q n x5 x6 x7) (fun x5 x6 x7 x8 => wX6_firstOf_59 t V (nI one) (nI B) a3 a4 Q (fun x5 x6 x7 => wX6_firstOf_9 t V (nI one) (nI B) a3 a4 Q n x5 x6 x7) n2 x5 x6 x7 x8) (nI S) f (nI a) (nI b) s0 := by
          rintro s0 rfl
          unfold wX6_firstOf_89
          have t1 : V (t + 11) (256 * (a + 1) + (S ||| 2 ^ b)) = nI (dp br A B (A - (a + 1)) (S ||| 2 ^ b)) := hV (a + 1) (by omega) _ o2
          rw [o1, nI_1 a, ix_256, ix_256, nI_clamp (show 256 * (a + 1) + (S ||| 2 ^ b) < 2 ^ 31 by omega), nI_clamp (show 256 * a + S < 2 ^ 31 by omega), t1, t0]
          have l2 := dp_le (br := br) (A := A) (B := B) h9 (A - (a + 1)) (S ||| 2 ^ b)
          unfold dpV at hk2
          by_cases c : inS S b
          · rw [if_pos c] at hk2 ⊢
            exact br_t rfl (nm_r en2 hk2)
          · rw [if_neg c] at hk2 ⊢
            cases e : br a b with
            | none =>
              rw [e] at hk2
              exact br_t rfl (nm_r en2 hk2)
            | some w =>
              rw [e] at hk2
              have hw := h9 a b w e
              simp only [isV, decide_eq_true_eq, Option.some.injEq] at hk2
              refine br_f (nI_nm1 (by omega)) ⟨in_2304 (by omega) o2, in_2304 (by omega) hS, ?_⟩
              show (¬ nI w + nI _ = _ → _) ∧ (nI w + nI _ = _ → _)
              rw [nI_add]
              refine ⟨fun z => ?_, fun z => ?_⟩
              · rw [if_neg (fun q => z (congrArg nI q))] at hk2
                exact nm_r en2 hk2
              · have z2 := (nI_eq (by omega) (by omega)).mp z
                rw [if_pos z2] at hk2
                exact nm_r en2 hk2
        refine br_f (nI_pos (by omega)) (s6_isOf (p_bz ?_))
        split
        · next z => exact f89 _ (by rw [if_pos (o3.mp z)]; rfl)
        · next z => exact hbr a b (by omega) hbB _ (f89 _ (by rw [if_neg (fun q => z (o3.mpr q))]))
end PD
