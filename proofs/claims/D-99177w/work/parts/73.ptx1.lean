/-! ===== PURE: texts: words, numbers, letters, hours; the twin reads them ===== -/
def ConSh (sh : List jH) : Prop := ∀ (k : Nat) (c : jC), jcon[k]? = some c → sh[k]? = some (jF c)
theorem ConSh.g {sh : List jH} (h : ConSh sh) {V : Nat → Nat → Int32} {R : Nat → Nat → Option Nat} : ConG (mk sh V R) := fun k c hk => mk_atF (h k c hk)
/-- a read thing: its fault, or what it tells and where it ends -/
abbrev Pz (α : Type) : Type := Nat ⊕ (α × Nat)
def pO {α : Type} (r : Pz α) (bad : Nat → Prop) (ok : α → Nat → Prop) : Prop := match r with
  | .inl b => bad b
  | .inr z => ok z.1 z.2
def pB {α β : Type} (r : Pz α) (k : α → Nat → Pz β) : Pz β := match r with
  | .inl b => .inl b
  | .inr z => k z.1 z.2
theorem pO_B {α β : Type} {r : Pz α} {k : α → Nat → Pz β} {bad : Nat → Prop} {ok : β → Nat → Prop} (h : pO (pB r k) bad ok) : pO r bad (fun v a => pO (k v a) bad ok) := by
  cases r <;> exact h
def vl (T : Nat → Nat) : Nat → Nat → Nat → Nat
  | 0, _, v => v
  | k + 1, b, v => vl T k (b + 1) (10 * v + T b - 48)
theorem vl_s {T : Nat → Nat} : ∀ (k b v : Nat), vl T (k + 1) b v = 10 * vl T k b v + T (b + k) - 48 := by
  intro k
  induction k with
  | zero => intro b v; rfl
  | succ k ih =>
    intro b v
    show vl T (k + 1) (b + 1) (10 * v + T b - 48) = _
    rw [ih (b + 1)]
    show _ = 10 * vl T k (b + 1) (10 * v + T b - 48) + T (b + (k + 1)) - 48
    rw [show b + 1 + k = b + (k + 1) by omega]
def pNum (lo hi : Int32) (T : Nat → Nat) (L a : Nat) : Pz Nat := if sk T L a < fg T L (sk T L a) ∧ fg T L (sk T L a) ≤ sk T L a + 3 ∧ inI (nI (vl T (fg T L (sk T L a) - sk T L a) (sk T L a) 0)) lo hi then .inr (vl T (fg T L (sk T L a) - sk T L a) (sk T L a) 0, fg T L (sk T L a)) else .inl (sk T L a)
def pAfter (w : List Nat) (lo hi : Int32) (T : Nat → Nat) (L a : Nat) : Pz Nat := if isW w T L a = true then pNum lo hi T L (afW w T L a) else .inl (sk T L a)
def letS (b : Nat) (z : Bool × Int32) : Bool × Int32 := if z.1 = true ∧ b < 103 ∧ ¬ isOf z.2 (nI (b - 97)) then (true, z.2 ||| ((1 : Int32) <<< (nI (b - 97) &&& 31))) else (false, z.2)
def letZ (T : Nat → Nat) (L a : Nat) : Bool × Int32 := fo (fun i z => letS (T i) z) (wd T L (sk T L a) - sk T L a) (sk T L a) (true, 0)
def pLet (T : Nat → Nat) (L a : Nat) : Pz Int32 := if sk T L a < wd T L (sk T L a) ∧ (letZ T L a).1 = true then .inr ((letZ T L a).2, wd T L (sk T L a)) else .inl (sk T L a)
def pHours (T : Nat → Nat) (L a : Nat) : Pz Nat := pB (pAfter (tw 9) 0 7 T L a) (fun f a1 => pB (pAfter (tw 10) (nI f) 7 T L a1) (fun u a2 => .inr (2 ^ (u + 1) - 2 ^ f, a2)))
theorem rn_add {p : Nat → Bool} {T : Nat → Nat} {L : Nat} : ∀ (j b : Nat), b + j ≤ L → (∀ i, i < j → p (T (b + i)) = true) → rn p T (L - b) b = rn p T (L - (b + j)) (b + j) := by
  intro j
  induction j with
  | zero => intro b _ _; rfl
  | succ j ih =>
    intro b h1 h2
    rw [rn_yes (a := b) (by omega) (h2 0 (by omega)), ih (b + 1) (by omega) (fun i hi => by rw [show b + 1 + i = b + (i + 1) by omega]; exact h2 (i + 1) (by omega)), show b + 1 + j = b + (j + 1) by omega]
theorem pFi_iff {b : Nat} : pFi b = true ↔ 48 ≤ b ∧ b ≤ 57 := decide_eq_true_iff
theorem pLo_iff {b : Nat} : pLo b = true ↔ 97 ≤ b ∧ b ≤ 122 := decide_eq_true_iff
theorem inI_fi {b : Nat} (h : b < 256) : inI (nI b) (48 : Int32) (57 : Int32) ↔ pFi b = true := by
  rw [pFi_iff, show (48 : Int32) = nI 48 from rfl, show (57 : Int32) = nI 57 from rfl]
  unfold inI
  rw [nI_ltI (by omega) (by decide), nI_ltI (by decide) (by omega)]
  omega
theorem inI_lo {b : Nat} (h : b < 256) : inI (nI b) (97 : Int32) (122 : Int32) ↔ pLo b = true := by
  rw [pLo_iff, show (97 : Int32) = nI 97 from rfl, show (122 : Int32) = nI 122 from rfl]
  unfold inI
  rw [nI_ltI (by omega) (by decide), nI_ltI (by decide) (by omega)]
  omega
theorem isW_iff {w : List Nat} {T : Nat → Nat} {L a : Nat} : isW w T L a = true ↔ wd T L (sk T L a) = sk T L a + w.length ∧ ∀ i, i < w.length → T (sk T L a + i) = w.getD i 0 := decide_eq_true_iff
theorem afW_le {w : List Nat} {T : Nat → Nat} {L a : Nat} (h : a ≤ L) : afW w T L a ≤ L := by
  unfold afW
  split
  · next z => have := (isW_iff.mp z).1; have := wd_le (T := T) (sk_le (T := T) h); omega
  · exact sk_le h
theorem afW_ge {w : List Nat} {T : Nat → Nat} {L a : Nat} : a ≤ afW w T L a := by
  unfold afW
  split <;> have := sk_ge (T := T) (L := L) (a := a) <;> omega
section TX3
variable {sh : List jH} {R : Nat → Nat → Option Nat} {V : Nat → Nat → Int32} {t L a d : Nat} {f lo hi : Int32} {T : Nat → Nat} {Q : Int32 → (Nat → Nat → Int32) → Prop} {P : (Nat → Nat → Int32) → Prop}
theorem tx_10 (hT : TxtT V t T L) : tx V t a f d t 10 = nI L := (tx_o (Or.inl (by decide))).trans hT.2.1
theorem s6_has {k : Nat} {w : List Nat} (hw : 0 < w.length) (hS : ∀ V R, StrG (mk sh V R) k w) (hT : TxtT V t T L) (ha : a ≤ 1000) (hq : if isW w T L a = true then Q 1 (tx V t (afW w T L a) f d) else Q 0 (tx V t (afW w T L a) f d)) : wX6_has t sh R (tx V t a f d) k Q := by
  have hL := hT.1
  have hwl : w.length < 1000000 := (hS V R).choose_spec.choose_spec.choose_spec.2.2.2.1
  have no : ¬ isW w T L a = true → Q 0 (tx V t (sk T L a) f d) := fun z => by
    rw [if_neg z] at hq
    rw [show afW w T L a = sk T L a from if_neg z] at hq
    exact hq
  have yes : isW w T L a = true → Q 1 (tx V t (sk T L a + w.length) f d) := fun z => by
    rw [if_pos z] at hq
    rw [show afW w T L a = sk T L a + w.length from if_pos z] at hq
    exact hq
  unfold wX6_has
  refine s6_skip hT (by omega) ?_
  have hsk : sk T L a ≤ 1000 + 400 := by have := rn_le (p := pBl) (T := T) (k := L - a) (a := a); unfold sk; omega
  have hww : wd T L (sk T L a) ≤ sk T L a + (L - sk T L a) := rn_le
  rw [tx_10 hT, tx_a]
  by_cases zL : sk T L a < L
  rotate_left
  · refine br_t (nI_le (by omega) (by omega)) (no fun z => ?_)
    have := (isW_iff.mp z).1
    omega
  refine br_f (nI_ge zL (by omega)) (s6_letter hT zL ?_)
  obtain ⟨k0, f0, fs0, c1, c2, -⟩ := hS (tx V t (sk T L a) f d) R
  refine ⟨_, c1, s5_charAt (i := 0) (hS _ _) hw ⟨fun z0 => ?_, fun z0 => no fun z => z0 (by rw [← (isW_iff.mp z).2 0 hw]; rfl)⟩⟩
  refine nm_e ?_
  suffices H : ∀ r j, L - (sk T L a + j) = r → sk T L a + j ≤ L → (∀ i, i < j → pLo (T (sk T L a + i)) = true) → wX6_has_38 t sh R k Q (r + 1) (tx V t (sk T L a) f d) (nI (sk T L a + j)) from ⟨_, H _ 0 rfl (by omega) (fun i hi => absurd hi (by omega))⟩
  have exit : ∀ j, sk T L a + j ≤ L → wd T L (sk T L a) = sk T L a + j → wX6_has_67 t sh R k Q (tx V t (sk T L a) f d) (nI (sk T L a + j)) := by
    intro j hj he
    refine ⟨_, c1, s5_length (hS _ _) ?_⟩
    rw [tx_a, pk_sub (by omega), show sk T L a + j - sk T L a = j by omega]
    refine ⟨fun z1 => ?_, fun z1 => no fun z => z1 (by rw [show j = w.length by have := (isW_iff.mp z).1; omega])⟩
    have hjw : j = w.length := (nI_eq (by omega) (by omega)).mp z1
    suffices H2 : ∀ r i, i + r = w.length → (∀ u, u < i → T (sk T L a + u) = w.getD u 0) → wX6_has_84 t sh R k Q (r + 1) (tx V t (sk T L a) f d) (nI (sk T L a + j)) (nI i) from ⟨_, H2 w.length 0 (by omega) (fun u hu => absurd hu (by omega))⟩
    intro r
    induction r with
    | zero =>
      intro i hi hh
      refine ⟨_, c1, s5_length (hS _ _) (br_t (nI_le (by omega) (by omega)) ?_)⟩
      rw [txs_a, hjw]
      exact yes (isW_iff.mpr ⟨by omega, fun u hu => hh u (by omega)⟩)
    | succ r ih =>
      intro i hi hh
      refine ⟨_, c1, s5_length (hS _ _) (br_f (nI_ge (by omega) (by omega)) ?_)⟩
      rw [tx_a, nI_add]
      refine s6_letter hT (by omega) ⟨_, c1, s5_charAt (hS _ _) (by omega) ⟨fun z2 => nm_r (nI_1 i) (ih (i + 1) (by omega) (fun u hu => ?_)), fun z2 => no fun z => z2 (by rw [(isW_iff.mp z).2 i (by omega)])⟩⟩
      rcases Nat.lt_succ_iff_lt_or_eq.mp hu with z3 | rfl
      · exact hh u z3
      · exact (nI_eq (by have := hT.2.2.1 (sk T L a + u) (by omega); omega) (by have := (hS V R).choose_spec.choose_spec.choose_spec.2.2.2.2 u (by omega); omega)).mp z2
  intro r
  induction r with
  | zero =>
    intro j hr hj hh
    rw [wX6_has_38, tx_10 hT]
    exact br_t (nI_le (by omega) (by omega)) (exit j hj ((rn_add j _ hj hh).trans (rn_no (by omega))))
  | succ r ih =>
    intro j hr hj hh
    rw [wX6_has_38, tx_10 hT]
    refine br_f (nI_ge (by omega) (by omega)) (s6_letter hT (by omega) (s6_isIn ?_))
    have h256 := hT.2.2.1 (sk T L a + j) (by omega)
    refine p_bz ?_
    split
    · next z =>
      refine nm_r (nI_1 _) (ih (j + 1) (by omega) (by omega) (fun i hi => ?_))
      rcases Nat.lt_succ_iff_lt_or_eq.mp hi with z3 | rfl
      · exact hh i z3
      · exact (inI_lo h256).mp z
    · next z => exact exit j hj ((rn_add j _ hj hh).trans (rn_no (fun q => z ((inI_lo h256).mpr q.2))))
end TX3
