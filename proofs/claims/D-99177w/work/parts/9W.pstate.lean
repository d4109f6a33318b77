/-! ===== PURE: what is kept, told once for both; the twin keeps it ===== -/
/-- row, law, image, acts (the oldest first), tape, its length, fault -/
abbrev St : Type := Row × Option (List Ln) × Option (Row × Option (List Ln)) × List Row × (Nat → Nat) × Nat × Int32
abbrev sM (D : St) : Row := D.1
abbrev sW (D : St) : Option (List Ln) := D.2.1
abbrev sI (D : St) : Option (Row × Option (List Ln)) := D.2.2.1
abbrev sA (D : St) : List Row := D.2.2.2.1
abbrev sT (D : St) : Nat → Nat := D.2.2.2.2.1
abbrev sL (D : St) : Nat := D.2.2.2.2.2.1
abbrev sF (D : St) : Int32 := D.2.2.2.2.2.2
def row0 : Row := fun _ => 0
def aRow (l : List Row) (i : Nat) : Row := l.getD i row0
def StOk (D : St) : Prop := RowOk (sM D) ∧ LawT (sM D) (sW D) ∧ (∀ z, sI D = some z → RowOk z.1 ∧ LawT z.1 z.2) ∧ (sA D).length ≤ 12 ∧ (∀ i, i < (sA D).length → RowOk (aRow (sA D) i) ∧ aRow (sA D) i 1 = sM D 1 ∧ aRow (sA D) i 2 = sM D 2) ∧ sL D ≤ 400 ∧ ∀ i, i < sL D → sT D i < 256
/-- the image that the twin keeps -/
def ImT (V : Nat → Nat → Int32) (t : Nat) (o : Option (Row × Option (List Ln))) : Prop := match o with
  | none => V t 3 = 0
  | some z => V t 3 = 1 ∧ ∀ j, j < 1019 → V (t + 2) j = z.1 j
def TI (V : Nat → Nat → Int32) (t : Nat) (D : St) : Prop := V (t + 1) = sM D ∧ ImT V t (sI D) ∧ V t 6 = nI (sA D).length ∧ (∀ i j, i < (sA D).length → j < 619 → V (t + 4) (619 * i + j) = aRow (sA D) i j) ∧ V t 8 = nI (sL D) ∧ (∀ i, i < sL D → V (t + 5) i = nI (sT D i)) ∧ V t 12 = sF D ∧ jz (V t 15) ∧ jz (V t 16)
/-- behind a call of the twin that leaves D, having thrown k -/
def TP (V : Nat → Nat → Int32) (t : Nat) (D : St) (k : Int32) (V' : Nat → Nat → Int32) : Prop := TI V' t D ∧ V' t 0 = k ∧ ∀ b, (b < t ∨ t + 14 ≤ b) → V' b = V b
def oP (o : Ot) (V : Nat → Nat → Int32) (t : Nat) (D : St) (Q : Int32 → (Nat → Nat → Int32) → Prop) : Prop := match o with
  | .inl r => ∀ V', TP V t D 0 V' → Q r V'
  | .inr e => ∀ V' r, TP V t D e.2 V' → Q r V'
section TS
variable {sh : List jH} {R : Nat → Nat → Option Nat} {V V1 V2 V' : Nat → Nat → Int32} {t : Nat} {D D' : St} {k e : Int32} {m m' : Row} {law : Option (List Ln)} {Q : Int32 → (Nat → Nat → Int32) → Prop} {P : (Nat → Nat → Int32) → Prop}
theorem ImT.frame {o : Option (Row × Option (List Ln))} (h : ImT V t o) (h2 : V' (t + 2) = V (t + 2)) (h3 : V' t 3 = V t 3) : ImT V' t o := by
  unfold ImT at h ⊢
  cases o with
  | none => exact h3.trans h
  | some z => exact ⟨h3.trans h.1, fun j hj => by rw [h2]; exact h.2 j hj⟩
theorem TI.frame (h : TI V t D) (h1 : V' (t + 1) = V (t + 1)) (h2 : V' (t + 2) = V (t + 2)) (h4 : V' (t + 4) = V (t + 4)) (h5 : V' (t + 5) = V (t + 5)) (hf : ∀ j, j = 3 ∨ j = 6 ∨ j = 8 ∨ j = 12 → V' t j = V t j) (h15 : jz (V' t 15)) (h16 : jz (V' t 16)) : TI V' t D := by
  obtain ⟨a1, a2, a3, a4, a5, a6, a7, -, -⟩ := h
  refine ⟨h1.trans a1, a2.frame h2 (hf 3 (by omega)), (hf 6 (by omega)).trans a3, fun i j hi hj => by rw [h4]; exact a4 i j hi hj, (hf 8 (by omega)).trans a5, fun i hi => by rw [h5]; exact a6 i hi, (hf 12 (by omega)).trans a7, h15, h16⟩
theorem TI.out (h : TI V t D) (hV : ∀ b, t ≤ b → b < t + 14 → V' b = V b) : TI V' t D := by
  have e0 := hV t (by omega) (by omega)
  exact h.frame (hV _ (by omega) (by omega)) (hV _ (by omega) (by omega)) (hV _ (by omega) (by omega)) (hV _ (by omega) (by omega)) (fun j _ => by rw [e0]) (by rw [e0]; exact h.2.2.2.2.2.2.2.1) (by rw [e0]; exact h.2.2.2.2.2.2.2.2)
theorem TI.thr (h : TI V t D) : TI (vset V t 0 e) t D := by
  have n : ∀ j, j ≠ 0 → vset V t 0 e t j = V t j := fun j hj => by rw [vset_at, if_neg hj]
  exact h.frame (vset_n _ _ _ (by omega)) (vset_n _ _ _ (by omega)) (vset_n _ _ _ (by omega)) (vset_n _ _ _ (by omega)) (fun j hj => n j (by omega)) (by rw [n 15 (by decide)]; exact h.2.2.2.2.2.2.2.1) (by rw [n 16 (by decide)]; exact h.2.2.2.2.2.2.2.2)
theorem TP.thr (h : TI V t D) : TP V t D e (vset V t 0 e) := ⟨h.thr, vt0, fun b hb => vset_n _ _ _ (by omega)⟩
theorem TP.thr2 (h : TP V t D k V1) : TP V t D e (vset V1 t 0 e) := ⟨h.1.thr, vt0, fun b hb => by rw [vset_n _ _ _ (by omega)]; exact h.2.2 b hb⟩
theorem TP.trans (h : TP V t D k V1) (h2 : TP V1 t D' e V2) : TP V t D' e V2 := ⟨h2.1, h2.2.1, fun b hb => (h2.2.2 b hb).trans (h.2.2 b hb)⟩
theorem TI.row (h : TI V t D) : V (t + 1) = sM D := h.1
theorem TI.j15 (h : TI V t D) : jz (V t 15) := h.2.2.2.2.2.2.2.1
theorem TI.j16 (h : TI V t D) : jz (V t 16) := h.2.2.2.2.2.2.2.2
theorem TI.ask (h : TI V t D) (hA : AskF V t V') : TI V' t D := h.frame (hA.1 _ (by omega) (by omega)) (hA.1 _ (by omega) (by omega)) (hA.1 _ (by omega) (by omega)) (hA.1 _ (by omega) (by omega)) (fun j hj => hA.2.1 j (by omega)) hA.2.2.1 hA.2.2.2
theorem TP.ask (h : TP V t D k V1) (hA : AskF V1 t V') : TP V t D k V' := ⟨h.1.ask hA, (hA.2.1 0 (by omega)).trans h.2.1, fun b hb => (hA.1 b (by omega) (by omega)).trans (h.2.2 b hb)⟩
theorem TP.ts (h : TP V t D k V1) (hA : TsF V1 t V') : TP V t D k V' := ⟨h.1.frame (hA.1 _ (by omega) (by omega) (by omega)) (hA.1 _ (by omega) (by omega) (by omega)) (hA.1 _ (by omega) (by omega) (by omega)) (hA.1 _ (by omega) (by omega) (by omega)) (fun j hj => hA.2.1 j (by omega)) hA.2.2.1 hA.2.2.2, (hA.2.1 0 (by omega)).trans h.2.1, fun b hb => (hA.1 b (by omega) (by omega) (by omega)).trans (h.2.2 b hb)⟩
/-- scratch rows behind 6 -/
theorem TP.sc (h : TP V t D k V1) (hA : ∀ b, (b < t + 6 ∨ t + 14 ≤ b) → V' b = V1 b) : TP V t D k V' := by
  have e0 := hA t (by omega)
  exact ⟨h.1.frame (hA _ (by omega)) (hA _ (by omega)) (hA _ (by omega)) (hA _ (by omega)) (fun j _ => by rw [e0]) (by rw [e0]; exact h.1.j15) (by rw [e0]; exact h.1.j16), by rw [e0]; exact h.2.1, fun b hb => (hA b (by omega)).trans (h.2.2 b hb)⟩
theorem oP_T {o : Ot} (hI : TI V t D) (h : oP o V t D Q) : oT o t V Q := by
  cases o with
  | inl r => exact h _ (TP.thr hI)
  | inr e => exact fun r => h _ r (TP.thr hI)
theorem oP_Tq {o : Ot} (hI : TI V t D) (h : oP o V t D Q) : oTq o t V Q := by
  cases o with
  | inl r => exact fun V' hV => h _ ((TP.thr hI).ts (TsF.q hV))
  | inr e => exact fun V' hV r => h _ r ((TP.thr hI).ts (TsF.q hV))
theorem RowOk.cong (h : ∀ j, j < 619 → m' j = m j) (hR : RowOk m) : RowOk m' :=
  hR.same (fun j hj => h j (by omega)) (fun i q hi hq => Or.inr (h _ (by omega))) (by rw [h 9 (by decide)]; exact hR.2.2.2.2.2.2.2.2.2.2.2.1)
theorem LawT.cong (h1 : m' 1 = m 1) (h2 : m' 2 = m 2) (h : ∀ j, 619 ≤ j → j < 1019 → m' j = m j) (hL : LawT m law) : LawT m' law := by
  cases law with
  | none => exact h1.trans hL
  | some ls =>
    obtain ⟨T, L, e, a1, a2, a3, a4, a5⟩ := hL
    exact ⟨T, L, e, a1, h1.trans a2, h2.trans a3, fun i hi => ⟨(a4 i hi).1, by rw [h _ (by omega) (by omega)]; exact (a4 i hi).2⟩, a5⟩
/-! ===== acts ===== -/
def remA (l : List Row) (m : Row) : List Row := (if l.length = 12 then l.tail else l) ++ [m]
def actD (D : St) (z : Ot × Row) : St := match z.1 with
  | .inl _ => (z.2, sW D, sI D, remA (sA D) (sM D), sT D, sL D, sF D)
  | .inr _ => D
theorem remA_len {l : List Row} (h : l.length ≤ 12) : (remA l m).length = (if l.length = 12 then 11 else l.length) + 1 ∧ (remA l m).length ≤ 12 := by
  unfold remA
  rw [List.length_append]
  by_cases z : l.length = 12
  · rw [if_pos z, if_pos z, List.length_tail, z]
    exact ⟨rfl, Nat.le_refl 12⟩
  · rw [if_neg z, if_neg z]
    exact ⟨rfl, by show l.length + 1 ≤ 12; omega⟩
theorem remA_row {l : List Row} (h : l.length ≤ 12) {i : Nat} : aRow (remA l m) i = if i < (if l.length = 12 then 11 else l.length) then aRow l (if l.length = 12 then i + 1 else i) else if i = (if l.length = 12 then 11 else l.length) then m else row0 := by
  unfold remA aRow
  rw [List.getD_eq_getElem?_getD, List.getD_eq_getElem?_getD]
  by_cases z : l.length = 12
  · rw [if_pos z, if_pos z, if_pos z]
    have h1 : l.tail.length = 11 := by rw [List.length_tail, z]
    by_cases z2 : i < 11
    · rw [if_pos z2, List.getElem?_append_left (by omega), List.getElem?_tail]
    · rw [if_neg z2, List.getElem?_append_right (by omega), h1]
      by_cases z3 : i = 11
      · rw [if_pos z3, z3]; rfl
      · rw [if_neg z3]
        obtain ⟨q, hq⟩ : ∃ q, i - 11 = q + 1 := ⟨i - 12, by omega⟩
        rw [hq]; rfl
  · rw [if_neg z, if_neg z, if_neg z]
    by_cases z2 : i < l.length
    · rw [if_pos z2, List.getElem?_append_left z2]
    · rw [if_neg z2, List.getElem?_append_right (by omega)]
      by_cases z3 : i = l.length
      · rw [if_pos z3, z3, Nat.sub_self]; rfl
      · rw [if_neg z3]
        obtain ⟨q, hq⟩ : ∃ q, i - l.length = q + 1 := ⟨i - l.length - 1, by omega⟩
        rw [hq]; rfl
theorem StOk.rem (h : StOk D) (hm : RowOk m) (h1 : m 1 = sM D 1) (h2 : m 2 = sM D 2) (hw : ∀ j, 619 ≤ j → j < 1019 → m j = sM D j) : StOk (m, sW D, sI D, remA (sA D) (sM D), sT D, sL D, sF D) := by
  obtain ⟨a1, a2, a3, a4, a5, a6, a7⟩ := h
  have hl := remA_len (m := sM D) a4
  refine ⟨hm, a2.cong h1 h2 hw, a3, hl.2, fun i hi => ?_, a6, a7⟩
  show RowOk (aRow (remA (sA D) (sM D)) i) ∧ aRow (remA (sA D) (sM D)) i 1 = m 1 ∧ aRow (remA (sA D) (sM D)) i 2 = m 2
  have hi2 : i < (remA (sA D) (sM D)).length := hi
  rw [remA_row a4, h1, h2]
  rw [hl.1] at hi2
  by_cases w : (sA D).length = 12
  · rw [if_pos w, if_pos w]
    rw [if_pos w] at hi2
    by_cases z : i < 11
    · rw [if_pos z]; exact a5 _ (by omega)
    · rw [if_neg z, if_pos (by omega)]; exact ⟨a1, rfl, rfl⟩
  · rw [if_neg w, if_neg w]
    rw [if_neg w] at hi2
    by_cases z : i < (sA D).length
    · rw [if_pos z]; exact a5 _ z
    · rw [if_neg z, if_pos (by omega)]; exact ⟨a1, rfl, rfl⟩
theorem s6_lay {A : Nat} (hA : A ≤ 11) (h6 : V t 6 = nI A) (hq : ∀ V', (∀ b, b ≠ t → b ≠ t + 4 → V' b = V b) → (∀ j, V' t j = if j = 6 then nI (A + 1) else V t j) → (∀ j, j < 619 → V' (t + 4) (619 * A + j) = V (t + 1) j) → (∀ j, j < 619 * A → V' (t + 4) j = V (t + 4) j) → P V') : ∃ f9, wX6_remembers_52 t P f9 V (0 : Int32) := by
  refine ⟨_, vloop (fun f (c : Nat → Nat → Int32) i => wX6_remembers_52 t P f c (nI i)) (fun i c => (∀ b, b ≠ t + 4 → c b = V b) ∧ (∀ j, j < i → c (t + 4) (619 * A + j) = V (t + 1) j) ∧ ∀ j, j < 619 * A → c (t + 4) j = V (t + 4) j) 619 ?_ ?_ 619 0 V (Nat.zero_add _) ⟨fun _ _ => rfl, fun j hj => absurd hj (by omega), fun _ _ => rfl⟩⟩
  · intro f c hI
    show wX6_remembers_52 t P (f + 1) c (nI 619)
    rw [wX6_remembers_52, hI.1 t (by omega), h6]
    refine br_t (by decide) (nm_r (nI_1 A) (hq _ (fun b b1 b2 => by rw [vset_n _ _ _ b1]; exact hI.1 b b2) (fun j => by rw [vset_at, hI.1 t (by omega)]) (fun j hj => by rw [vset_n _ _ _ (by omega)]; exact hI.2.1 j hj) (fun j hj => by rw [vset_n _ _ _ (by omega)]; exact hI.2.2 j hj)))
  · intro f c i hi hI hk
    show wX6_remembers_52 t P (f + 1) c (nI i)
    rw [wX6_remembers_52, hI.1 t (by omega), h6, show (619 : Int32) * nI A + nI i = nI (619 * A + i) by rw [show (619 : Int32) = nI 619 from rfl, pk_mul, nI_add], nI_clamp (n := i) (by omega), nI_clamp (n := 619 * A + i) (by omega)]
    refine br_f (nI_ge hi (by decide)) ⟨vp_in_nI (by omega) (by decide), nm_e ⟨vp_in_nI (by omega) (by decide), nm_r (nI_1 i) ?_⟩⟩
    refine hk _ ⟨fun b hb => by rw [vset_n _ _ _ hb]; exact hI.1 b hb, fun j hj => ?_, fun j hj => ?_⟩
    · rw [vset_at]
      split
      · next z => rw [hI.1 _ (by omega), show j = i by omega]
      · next z => exact hI.2.1 j (by omega)
    · rw [vset_at, if_neg (by omega)]
      exact hI.2.2 j hj
theorem s6_shift (hq : ∀ V', (∀ b, b ≠ t + 4 → V' b = V b) → (∀ j, j < 6809 → V' (t + 4) j = V (t + 4) (j + 619)) → ∃ f9, wX6_remembers_52 t P f9 (vset V' t 6 (V t 6 - 1)) (0 : Int32)) : ∃ f9, wX6_remembers_11 t P f9 V (0 : Int32) := by
  refine ⟨_, vloop (fun f (c : Nat → Nat → Int32) i => wX6_remembers_11 t P f c (nI i)) (fun i c => (∀ b, b ≠ t + 4 → c b = V b) ∧ (∀ j, j < i → c (t + 4) j = V (t + 4) (j + 619)) ∧ ∀ j, i ≤ j → c (t + 4) j = V (t + 4) j) 6809 ?_ ?_ 6809 0 V (Nat.zero_add _) ⟨fun _ _ => rfl, fun j hj => absurd hj (by omega), fun _ _ => rfl⟩⟩
  · intro f c hI
    show wX6_remembers_11 t P (f + 1) c (nI 6809)
    rw [wX6_remembers_11]
    refine br_t (by decide) (nm_r (e' := V t 6 - 1) (by rw [hI.1 t (by omega)]) (hq c hI.1 hI.2.1))
  · intro f c i hi hI hk
    show wX6_remembers_11 t P (f + 1) c (nI i)
    rw [wX6_remembers_11, show nI i + (619 : Int32) = nI (i + 619) from nI_add i 619, nI_clamp (n := i) (by omega), nI_clamp (n := i + 619) (by omega)]
    refine br_f (nI_ge hi (by decide)) ⟨vp_in_nI (by omega) (by decide), nm_e ⟨vp_in_nI (by omega) (by decide), nm_r (nI_1 i) ?_⟩⟩
    refine hk _ ⟨fun b hb => by rw [vset_n _ _ _ hb]; exact hI.1 b hb, fun j hj => ?_, fun j hj => ?_⟩
    · rw [vset_at]
      split
      · next z => rw [hI.2.2 _ (by omega), z]
      · next z => exact hI.2.1 j (by omega)
    · rw [vset_at, if_neg (by omega)]
      exact hI.2.2 j (by omega)
theorem s6_remembers (hI : TI V t D) (hO : StOk D) (hq : ∀ V', TP V t (sM D, sW D, sI D, remA (sA D) (sM D), sT D, sL D, sF D) (V t 0) V' → P V') : wX6_remembers t V P := by
  obtain ⟨a1, a2, a3, a4, a5, a6, a7, a8, a9⟩ := hI
  have h12 := hO.2.2.2.1
  have hl := remA_len (m := sM D) h12
  unfold wX6_remembers
  rw [a3]
  by_cases z : (sA D).length = 12
  · refine ⟨fun q => absurd (by rw [z]; rfl) q, fun _ => s6_shift (fun V1 b1 b2 => ?_)⟩
    have e0 : ∀ j, vset V1 t 6 (V t 6 - 1) t j = if j = 6 then nI 11 else V t j := fun j => by rw [vset_at, b1 t (by omega), a3, z]; rfl
    have en : ∀ b, b ≠ t → b ≠ t + 4 → vset V1 t 6 (V t 6 - 1) b = V b := fun b c1 c2 => by rw [vset_n _ _ _ c1]; exact b1 b c2
    have e4 : ∀ j, j < 6809 → vset V1 t 6 (V t 6 - 1) (t + 4) j = V (t + 4) (j + 619) := fun j hj => by rw [vset_n _ _ _ (by omega)]; exact b2 j hj
    generalize vset V1 t 6 (V t 6 - 1) = V2 at e0 en e4
    refine s6_lay (A := 11) (by decide) (by rw [e0]; rfl) (fun V3 c1 c2 c3 c4 => hq V3 ⟨⟨?_, ?_, ?_, ?_, ?_, ?_, ?_, ?_, ?_⟩, ?_, ?_⟩)
    · rw [c1 _ (by omega) (by omega), en _ (by omega) (by omega)]; exact a1
    · exact a2.frame (by rw [c1 _ (by omega) (by omega), en _ (by omega) (by omega)]) (by rw [c2, e0]; rfl)
    · rw [c2, if_pos rfl]
      show nI 12 = nI (remA (sA D) (sM D)).length
      rw [hl.1, if_pos z]
    · intro i j hi hj
      have hi2 : i < (remA (sA D) (sM D)).length := hi
      rw [hl.1, if_pos z] at hi2
      show V3 (t + 4) (619 * i + j) = aRow (remA (sA D) (sM D)) i j
      rw [remA_row h12, if_pos z, if_pos z]
      by_cases w : i < 11
      · rw [if_pos w, c4 _ (by omega), e4 _ (by omega), ← a4 (i + 1) j (by omega) hj]
        congr 1
        omega
      · rw [if_neg w, if_pos (by omega), show i = 11 by omega, c3 j hj, en _ (by omega) (by omega), a1]
    · rw [c2, e0]; exact a5
    · intro i hi
      rw [c1 _ (by omega) (by omega), en _ (by omega) (by omega)]; exact a6 i hi
    · rw [c2, e0]; exact a7
    · rw [c2, e0]; exact a8
    · rw [c2, e0]; exact a9
    · rw [c2, e0]; rfl
    · intro b hb
      rw [c1 _ (by omega) (by omega), en _ (by omega) (by omega)]
  · refine ⟨fun _ => s6_lay (A := (sA D).length) (by omega) a3 (fun V3 c1 c2 c3 c4 => hq V3 ⟨⟨?_, ?_, ?_, ?_, ?_, ?_, ?_, ?_, ?_⟩, ?_, ?_⟩), fun q => absurd ((nI_eq (b := 12) (by omega) (by decide)).mp q) z⟩
    · rw [c1 _ (by omega) (by omega)]; exact a1
    · exact a2.frame (by rw [c1 _ (by omega) (by omega)]) (by rw [c2]; rfl)
    · rw [c2, if_pos rfl]
      show nI ((sA D).length + 1) = nI (remA (sA D) (sM D)).length
      rw [hl.1, if_neg z]
    · intro i j hi hj
      have hi2 : i < (remA (sA D) (sM D)).length := hi
      rw [hl.1, if_neg z] at hi2
      show V3 (t + 4) (619 * i + j) = aRow (remA (sA D) (sM D)) i j
      rw [remA_row h12, if_neg z, if_neg z]
      by_cases w : i < (sA D).length
      · rw [if_pos w, c4 _ (by have := Nat.mul_le_mul_left 619 (show i + 1 ≤ (sA D).length by omega); omega)]
        exact a4 i j w hj
      · obtain rfl : i = (sA D).length := by omega
        rw [if_neg w, if_pos rfl, c3 j hj, a1]
    · rw [c2]; exact a5
    · intro i hi
      rw [c1 _ (by omega) (by omega)]; exact a6 i hi
    · rw [c2]; exact a7
    · rw [c2]; exact a8
    · rw [c2]; exact a9
    · rw [c2]; rfl
    · intro b hb
      rw [c1 _ (by omega) (by omega)]
/-- the row told anew -/
theorem TP.put (h : TP V t D k V1) {i : Nat} {v : Int32} (hq : TP V t (upd (sM D) i v, D.2) k (vset V1 (t + 1) i v) → P (vset V1 (t + 1) i v)) : P (vset V1 (t + 1) i v) := by
  have n : ∀ b, b ≠ t + 1 → vset V1 (t + 1) i v b = V1 b := fun b hb => vset_n _ _ _ hb
  obtain ⟨⟨a1, a2, a3, a4, a5, a6, a7, a8, a9⟩, b1, b2⟩ := h
  refine hq ⟨⟨?_, a2.frame (n _ (by omega)) (by rw [n t (by omega)]), by rw [n t (by omega)]; exact a3, fun i j hi hj => by rw [n _ (by omega)]; exact a4 i j hi hj, by rw [n t (by omega)]; exact a5, fun i hi => by rw [n _ (by omega)]; exact a6 i hi, by rw [n t (by omega)]; exact a7, by rw [n t (by omega)]; exact a8, by rw [n t (by omega)]; exact a9⟩, by rw [n t (by omega)]; exact b1, fun b hb => by rw [n b (by omega)]; exact b2 b hb⟩
  rw [vset_s, a1]
theorem s6_sets {i : Nat} {v : Int32} (hI : TI V t D) (hO : StOk D) (hi : i < 1019) (hq : ∀ V', TP V t (upd (sM D) i v, sW D, sI D, remA (sA D) (sM D), sT D, sL D, sF D) (V t 0) V' → Q (sM D i) V') : wX6_sets t V (nI i) v Q := by
  refine s6_remembers hI hO (fun V1 h1 => ?_)
  rw [nI_clamp (by omega)]
  refine ⟨vp_in_nI hi (by decide), nm_r (e' := sM D i) (by rw [h1.1.row]) ⟨vp_in_nI hi (by decide), ?_⟩⟩
  exact h1.put (P := Q (sM D i)) (fun h => hq _ h)
end TS
