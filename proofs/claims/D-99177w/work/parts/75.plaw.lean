/-! ===== PURE: the law's language, told plainly; the twin's conditions ===== -/
abbrev Cd : Type := (Nat → Int32) → Bool
abbrev Ev : Type := (Nat → Int32) → Int32
def wAt (T : Nat → Nat) (L a : Nat) : List Nat := (List.range (wd T L (sk T L a) - sk T L a)).map (fun i => T (sk T L a + i))
def pFact (T : Nat → Nat) (L a : Nat) : Option Nat := if isW (tw 0) T L a = true then some 0 else if isW (tw 1) T L a = true then some 1 else if isW (tw 22) T L a = true then some 2 else if isW (tw 23) T L a = true then some 3 else if isW (tw 24) T L a = true then some 4 else if isW (tw 25) T L a = true then some 5 else if isW (tw 5) T L a = true then some 6 else none
def pPart (T : Nat → Nat) (L a : Nat) : Pz Ev := if sk T L a < L ∧ pFi (T (sk T L a)) = true then pB (pNum 0 999 T L a) (fun v e => .inr (fun _ => nI v, e)) else match pFact T L a with
  | some i => .inr (fun F => F i, wd T L (sk T L a))
  | none => .inl (sk T L a)
def pSumL (T : Nat → Nat) (L : Nat) : Nat → Ev → Nat → Pz Ev
  | 0, x, a => .inr (x, sk T L a)
  | k + 1, x, a => if isS 43 T L a = true then pB (pPart T L (sk T L a + 1)) (fun y a1 => pSumL T L k (fun F => x F + y F) a1) else .inr (x, sk T L a)
def pSum (T : Nat → Nat) (L a : Nat) : Pz Ev := pB (pPart T L a) (fun x a1 => pSumL T L L x a1)
def pPlain (T : Nat → Nat) (L a : Nat) : Pz Cd := if isW (tw 15) T L a = true then .inr (fun F => decide (¬ F 7 = 0), afW (tw 15) T L a) else if isW (tw 16) T L a = true then .inr (fun F => decide (¬ F 8 = 0), afW (tw 16) T L a) else
  pB (pSum T L a) (fun x a1 => if isS 60 T L a1 = true then pB (pSum T L (sk T L a1 + 1)) (fun y a2 => .inr (fun F => decide (x F < y F), a2)) else if isS 62 T L a1 = true then pB (pSum T L (sk T L a1 + 1)) (fun y a2 => .inr (fun F => decide (y F < x F), a2)) else .inl (sk T L a1))
def pLoop (w : List Nat) (P : Nat → Pz Cd) (op : Bool → Bool → Bool) (T : Nat → Nat) (L : Nat) : Nat → Cd → Nat → Pz Cd
  | 0, c, a => .inr (c, sk T L a)
  | k + 1, c, a => if isW w T L a = true then pB (P (afW w T L a)) (fun c2 a1 => pLoop w P op T L k (fun F => op (c F) (c2 F)) a1) else .inr (c, sk T L a)
def pEvery (REC : Nat → Pz Cd) (T : Nat → Nat) (L a : Nat) : Pz Cd := pB (REC a) (fun c a1 => pLoop (tw 17) REC and T L L c a1)
def pSome (REC : Nat → Pz Cd) (T : Nat → Nat) (L a : Nat) : Pz Cd := pB (pEvery REC T L a) (fun c a1 => pLoop (tw 18) (pEvery REC T L) or T L L c a1)
def pAtB (n : Nat) (REC : Nat → Pz Cd) (T : Nat → Nat) (L a : Nat) : Pz Cd :=
  if isS 40 T L a = true then (if n = 0 then .inl (sk T L a) else pB (pSome REC T L (sk T L a + 1)) (fun c a1 => if isS 41 T L a1 = true then .inr (c, sk T L a1 + 1) else .inl (sk T L a1)))
  else if isW (tw 14) T L a = true then (if n = 0 then .inl (sk T L a) else pB (REC (afW (tw 14) T L a)) (fun c a1 => .inr (fun F => !c F, a1)))
  else pPlain T L a
def pAt (T : Nat → Nat) (L : Nat) : Nat → Nat → Pz Cd
  | 0, a => .inl (sk T L a)
  | n + 1, a => pAtB n (pAt T L n) T L a
theorem isW_at {w : List Nat} {T : Nat → Nat} {L a : Nat} : isW w T L a = true ↔ wAt T L a = w := by
  rw [isW_iff]
  have h1 : sk T L a ≤ wd T L (sk T L a) := wd_ge
  have hlen : (wAt T L a).length = wd T L (sk T L a) - sk T L a := by unfold wAt; rw [List.length_map, List.length_range]
  have hget : ∀ i, i < wd T L (sk T L a) - sk T L a → (wAt T L a).getD i 0 = T (sk T L a + i) := fun i hi => by
    unfold wAt
    rw [List.getD_eq_getElem?_getD, List.getElem?_map, List.getElem?_range hi]
    rfl
  have g9 : ∀ i, ∀ (l : List Nat) (h : i < l.length), l[i] = l.getD i 0 := fun i l h => by rw [List.getD_eq_getElem?_getD, List.getElem?_eq_getElem h]; rfl
  constructor
  · intro h
    refine List.ext_getElem (by rw [hlen, h.1]; omega) (fun i z1 z2 => ?_)
    rw [g9 i _ z1, g9 i _ z2, hget i (by omega), h.2 i z2]
  · intro h
    rw [h] at hlen hget
    exact ⟨by omega, fun i hi => (hget i (by omega)).symm⟩
theorem isW_sk {w : List Nat} {T : Nat → Nat} {L a : Nat} : isW w T L (sk T L a) = isW w T L a := by unfold isW; rw [sk_sk]
theorem isS_sk {c : Nat} {T : Nat → Nat} {L a : Nat} : isS c T L (sk T L a) = isS c T L a := by unfold isS; rw [sk_sk]
theorem afW_sk {w : List Nat} {T : Nat → Nat} {L a : Nat} : afW w T L (sk T L a) = afW w T L a := by unfold afW; rw [sk_sk, isW_sk]
theorem afW_no {w : List Nat} {T : Nat → Nat} {L a : Nat} (h : ¬ isW w T L a = true) : afW w T L a = sk T L a := if_neg h
theorem afW_yes {w : List Nat} {T : Nat → Nat} {L a : Nat} (h : isW w T L a = true) : afW w T L a = wd T L (sk T L a) := by rw [(isW_iff.mp h).1]; exact if_pos h
theorem pO_mono {α : Type} {r : Pz α} {b1 b2 : Nat → Prop} {k1 k2 : α → Nat → Prop} (h : pO r b1 k1) (hb : ∀ b, b1 b → b2 b) (hk : ∀ v e, k1 v e → k2 v e) : pO r b2 k2 := by
  rcases r with b | ⟨v, e⟩
  · exact hb b h
  · exact hk v e h
theorem pO_and {α : Type} {r : Pz α} {b1 b2 : Nat → Prop} {k1 k2 : α → Nat → Prop} (h : pO r b1 k1) (h2 : pO r b2 k2) : pO r (fun b => b1 b ∧ b2 b) (fun v e => k1 v e ∧ k2 v e) := by
  rcases r with b | ⟨v, e⟩
  · exact ⟨h, h2⟩
  · exact ⟨h, h2⟩
theorem pB_pO {α β : Type} {r : Pz α} {k : α → Nat → Pz β} {bad : Nat → Prop} {ok : β → Nat → Prop} (h : pO r bad (fun v a => pO (k v a) bad ok)) : pO (pB r k) bad ok := by
  cases r <;> exact h
/-- it ends in the text, and further on -/
abbrev fw {α : Type} (L a : Nat) (r : Pz α) : Prop := pO r (fun b => b ≤ L) (fun _ e => a < e ∧ e ≤ L)
abbrev fw0 {α : Type} (L a : Nat) (r : Pz α) : Prop := pO r (fun b => b ≤ L) (fun _ e => a ≤ e ∧ e ≤ L)
theorem fw.mono {α : Type} {L a b : Nat} {r : Pz α} (h : fw L b r) (hab : a ≤ b) : fw L a r := pO_mono h (fun _ z => z) (fun _ _ z => ⟨by omega, z.2⟩)
theorem pNum_fw {lo hi : Int32} {T : Nat → Nat} {L a : Nat} (h : a ≤ L) : fw L a (pNum lo hi T L a) := pO_mono (pNum_le h) (fun _ z => z) (fun _ _ z => ⟨z.1, z.2.1⟩)
theorem isW_lt {w : List Nat} {T : Nat → Nat} {L a : Nat} (hw : 0 < w.length) (h : isW w T L a = true) : a < afW w T L a := by
  have := sk_ge (T := T) (L := L) (a := a)
  rw [show afW w T L a = sk T L a + w.length from if_pos h]
  omega
theorem pFact_lt {T : Nat → Nat} {L a i : Nat} (h : pFact T L a = some i) : a < wd T L (sk T L a) ∧ i < 7 := by
  have := sk_ge (T := T) (L := L) (a := a)
  unfold pFact at h
  split at h
  · next z =>
    cases h
    have h1 := (isW_iff.mp z).1
    have h2 : 0 < (tw 0).length := by decide
    exact ⟨by omega, by decide⟩
  split at h
  · next z =>
    cases h
    have h1 := (isW_iff.mp z).1
    have h2 : 0 < (tw 1).length := by decide
    exact ⟨by omega, by decide⟩
  split at h
  · next z =>
    cases h
    have h1 := (isW_iff.mp z).1
    have h2 : 0 < (tw 22).length := by decide
    exact ⟨by omega, by decide⟩
  split at h
  · next z =>
    cases h
    have h1 := (isW_iff.mp z).1
    have h2 : 0 < (tw 23).length := by decide
    exact ⟨by omega, by decide⟩
  split at h
  · next z =>
    cases h
    have h1 := (isW_iff.mp z).1
    have h2 : 0 < (tw 24).length := by decide
    exact ⟨by omega, by decide⟩
  split at h
  · next z =>
    cases h
    have h1 := (isW_iff.mp z).1
    have h2 : 0 < (tw 25).length := by decide
    exact ⟨by omega, by decide⟩
  split at h
  · next z =>
    cases h
    have h1 := (isW_iff.mp z).1
    have h2 : 0 < (tw 5).length := by decide
    exact ⟨by omega, by decide⟩
  cases h
theorem pPart_fw {T : Nat → Nat} {L a : Nat} (h : a ≤ L) : fw L a (pPart T L a) := by
  unfold pPart
  split
  · exact pB_pO (pO_mono (pNum_fw h) (fun _ z => z) (fun _ _ z => z))
  · split
    · next z => exact ⟨(pFact_lt z).1, wd_le (sk_le h)⟩
    · exact sk_le h
theorem pSumL_fw {T : Nat → Nat} {L : Nat} : ∀ {k : Nat} {x : Ev} {a : Nat}, a ≤ L → fw0 L a (pSumL T L k x a) := by
  intro k
  induction k with
  | zero => intro x a h; exact ⟨sk_ge, sk_le h⟩
  | succ k ih =>
    intro x a h
    unfold pSumL
    split
    · next z =>
      have h1 := (isS_iff.mp z).1
      have h2 := sk_ge (T := T) (L := L) (a := a)
      refine pB_pO (pO_mono (pPart_fw (by omega)) (fun _ z => z) (fun y e z => ?_))
      exact pO_mono (ih z.2) (fun _ z => z) (fun _ _ z2 => ⟨by omega, z2.2⟩)
    · exact ⟨sk_ge, sk_le h⟩
theorem pSum_fw {T : Nat → Nat} {L a : Nat} (h : a ≤ L) : fw L a (pSum T L a) :=
  pB_pO (pO_mono (pPart_fw h) (fun _ z => z) (fun _ _ z => pO_mono (pSumL_fw z.2) (fun _ z => z) (fun _ _ z2 => ⟨by omega, z2.2⟩)))
theorem pPlain_fw {T : Nat → Nat} {L a : Nat} (h : a ≤ L) : fw L a (pPlain T L a) := by
  unfold pPlain
  split
  · next z => exact ⟨isW_lt (by decide) z, afW_le h⟩
  split
  · next z => exact ⟨isW_lt (by decide) z, afW_le h⟩
  refine pB_pO (pO_mono (pSum_fw h) (fun _ z => z) (fun x e z => ?_))
  have hse := sk_ge (T := T) (L := L) (a := e)
  split
  · next z1 =>
    have := (isS_iff.mp z1).1
    exact pB_pO (pO_mono (pSum_fw (by omega)) (fun _ z => z) (fun _ _ z2 => ⟨by omega, z2.2⟩))
  split
  · next z1 =>
    have := (isS_iff.mp z1).1
    exact pB_pO (pO_mono (pSum_fw (by omega)) (fun _ z => z) (fun _ _ z2 => ⟨by omega, z2.2⟩))
  · exact sk_le z.2
theorem pLoop_fw {w : List Nat} {P : Nat → Pz Cd} {op : Bool → Bool → Bool} {T : Nat → Nat} {L : Nat} (hP : ∀ a, a ≤ L → fw L a (P a)) : ∀ {k : Nat} {c : Cd} {a : Nat}, a ≤ L → fw0 L a (pLoop w P op T L k c a) := by
  intro k
  induction k with
  | zero => intro c a h; exact ⟨sk_ge, sk_le h⟩
  | succ k ih =>
    intro c a h
    unfold pLoop
    split
    · have h2 := afW_ge (w := w) (T := T) (L := L) (a := a)
      refine pB_pO (pO_mono (hP _ (afW_le h)) (fun _ z => z) (fun y e z => ?_))
      exact pO_mono (ih z.2) (fun _ z => z) (fun _ _ z2 => ⟨by omega, z2.2⟩)
    · exact ⟨sk_ge, sk_le h⟩
theorem pEvery_fw {REC : Nat → Pz Cd} {T : Nat → Nat} {L a : Nat} (hP : ∀ a, a ≤ L → fw L a (REC a)) (h : a ≤ L) : fw L a (pEvery REC T L a) :=
  pB_pO (pO_mono (hP a h) (fun _ z => z) (fun _ _ z => pO_mono (pLoop_fw hP z.2) (fun _ z => z) (fun _ _ z2 => ⟨by omega, z2.2⟩)))
theorem pSome_fw {REC : Nat → Pz Cd} {T : Nat → Nat} {L a : Nat} (hP : ∀ a, a ≤ L → fw L a (REC a)) (h : a ≤ L) : fw L a (pSome REC T L a) :=
  pB_pO (pO_mono (pEvery_fw hP h) (fun _ z => z) (fun _ _ z => pO_mono (pLoop_fw (fun a h => pEvery_fw hP h) z.2) (fun _ z => z) (fun _ _ z2 => ⟨by omega, z2.2⟩)))
theorem pAtB_fw {n : Nat} {REC : Nat → Pz Cd} {T : Nat → Nat} {L a : Nat} (hP : ∀ a, a ≤ L → fw L a (REC a)) (h : a ≤ L) : fw L a (pAtB n REC T L a) := by
  unfold pAtB
  have hse := sk_ge (T := T) (L := L) (a := a)
  split
  · next z1 =>
    have := (isS_iff.mp z1).1
    split
    · exact sk_le h
    · refine pB_pO (pO_mono (pSome_fw hP (by omega)) (fun _ z => z) (fun c e z => ?_))
      have hse := sk_ge (T := T) (L := L) (a := e)
      split
      · next z2 => have := (isS_iff.mp z2).1; exact ⟨by omega, by omega⟩
      · exact sk_le z.2
  split
  · split
    · exact sk_le h
    · exact pB_pO (pO_mono ((hP _ (afW_le h)).mono afW_ge) (fun _ z => z) (fun _ _ z => z))
  · exact pPlain_fw h
theorem pAt_fw {T : Nat → Nat} {L : Nat} : ∀ {n a : Nat}, a ≤ L → fw L a (pAt T L n a) := by
  intro n
  induction n with
  | zero => intro a h; exact sk_le h
  | succ n ih => intro a h; exact pAtB_fw (fun a h => ih h) h
