/-! ===== PURE: conditions of the component, one within another ===== -/
section AT
variable {sh s : List jH} {V : Nat → Nat → Int32} {R : Nat → Nat → Option Nat} {x a b d L c n h k y q D : Nat} {T : Nat → Nat} {X : String → List jH → (Nat → Nat → Int32) → (Nat → Nat → Option Nat) → Prop} {P : Nat → Pz Cd} {Sa Sb : Nat → Prop}
theorem den_less {ka kb : Nat} {xa xb : Ev} {c0 : Cd} (hj : jn ≤ sh.length) (hq : sh.length ≤ q) (h0 : s[q]? = some (jF (.inr (14, [.ref ka, .ref kb])))) (ha : Den s Sa (SumF ka xa)) (hb : Den s Sb (SumF kb xb)) (hSa : ∀ j, Sa j → sh.length ≤ j) (hSb : ∀ j, Sb j → sh.length ≤ j) (hc : ∀ F, c0 F = decide (xa F < xb F)) : Den s (fun j => sh.length ≤ j) (CondF q 1 c0) := by
  intro sh' hkp hC V R
  have e0 := hkp _ _ hq h0
  have hqj : jn ≤ q := by omega
  refine ⟨⟨"VisitingHours$Less", ⟨14, _, _, mk_atF e0, rfl, rfl, fun _ => rfl⟩, nw566⟩, fun s9 F hF f hf Q hQ => ?_⟩
  obtain ⟨f, rfl⟩ : ∃ f', f = f' + 1 := ⟨f - 1, by omega⟩
  obtain ⟨⟨fa, a1⟩, a2⟩ := ha sh' (fun j t hj ht => hkp j t (hSa j hj) ht) hC V R
  obtain ⟨⟨fb, b1⟩, b2⟩ := hb sh' (fun j t hj ht => hkp j t (hSb j hj) ht) hC V R
  refine Or.inr (Or.inr (Or.inr ⟨_, hqj, mk_atF e0, _, mk_atF e0, hqj, some ka, rfl, ka, rfl, _, a1, a2 s9 F hF _ ⟨_, mk_atF e0, hqj, some kb, rfl, kb, rfl, _, b1, b2 s9 F hF _ ⟨fun z => ?_, fun z => ?_⟩⟩⟩))
  · rw [hc, b2i_f (fun w => absurd (of_decide_eq_true w) (Int32.not_lt.mpr z))] at hQ
    exact hQ
  · rw [hc, b2i_t (decide_eq_true (Int32.not_le.mp z))] at hQ
    exact hQ
theorem den_not {ka : Nat} {c1 c0 : Cd} (hj : jn ≤ sh.length) (hq : sh.length ≤ q) (h0 : s[q]? = some (jF (.inr (10, [.ref ka])))) (ha : Den s Sa (CondF ka D c1)) (hSa : ∀ j, Sa j → sh.length ≤ j) (hc : ∀ F, c0 F = !c1 F) : Den s (fun j => sh.length ≤ j) (CondF q (D + 1) c0) := by
  intro sh' hkp hC V R
  have e0 := hkp _ _ hq h0
  have hqj : jn ≤ q := by omega
  refine ⟨⟨"VisitingHours$Not", ⟨10, _, _, mk_atF e0, rfl, rfl, fun _ => rfl⟩, nw593⟩, fun s9 F hF f hf Q hQ => ?_⟩
  obtain ⟨f, rfl⟩ : ∃ f', f = f' + 1 := ⟨f - 1, by omega⟩
  have a2 := (ha sh' (fun j t hj ht => hkp j t (hSa j hj) ht) hC V R).2
  refine Or.inr (Or.inl ⟨_, hqj, mk_atF e0, _, mk_atF e0, hqj, some ka, rfl, ka, rfl, a2 s9 F hF f (by omega) _ ⟨fun z => ?_, fun z => ?_⟩⟩)
  · have hcc : c1 F = true := Classical.byContradiction fun w => z (b2i_f w)
    rw [hc, hcc] at hQ
    exact hQ
  · have hcc : c1 F = false := Bool.eq_false_iff.mpr (b2i_0.mp z)
    rw [hc, hcc] at hQ
    exact hQ
theorem den_tag {m : Int32} {i : Nat} {c0 : Cd} (hj : jn ≤ sh.length) (hq : sh.length ≤ q) (h0 : s[q]? = some (jF (.inr (11, [.int m])))) (hm : (m = 1 ∧ i = 7) ∨ (m = 0 ∧ i = 8)) (hc : ∀ F, c0 F = decide (¬ F i = 0)) : Den s (fun j => sh.length ≤ j) (CondF q 1 c0) := by
  intro sh' hkp hC V R
  have e0 := hkp _ _ hq h0
  have hqj : jn ≤ q := by omega
  refine ⟨⟨"VisitingHours$Tag", ⟨11, _, _, mk_atF e0, rfl, rfl, fun _ => rfl⟩, nw612⟩, fun s9 F hF f hf Q hQ => ?_⟩
  obtain ⟨f, rfl⟩ : ∃ f', f = f' + 1 := ⟨f - 1, by omega⟩
  obtain ⟨fs, g1, g2, g3, g4, g5⟩ := hF
  rw [hc] at hQ
  refine Or.inr (Or.inr (Or.inl ⟨_, hqj, mk_atF e0, _, mk_atF e0, hqj, m, rfl, fun z => ?_, fun z => ?_⟩))
  · have hi : i = 8 := by
      rcases hm with ⟨h1, h2⟩ | ⟨h1, h2⟩
      · rw [h1] at z; exact absurd z (by decide)
      · exact h2
    subst hi
    rw [jz_eq g5] at hQ
    exact ⟨fs, g1, g2, F 8, g3 8 (by decide), g5, hQ⟩
  · have hi : i = 7 := by
      rcases hm with ⟨h1, h2⟩ | ⟨h1, h2⟩
      · exact h2
      · exact absurd h1 z
    subst hi
    rw [jz_eq g4] at hQ
    exact ⟨fs, g1, g2, F 7, g3 7 (by decide), g4, hQ⟩
theorem twl_0 {T : Nat → Nat} {L e c : Nat} (h : isS c T L e = true) (hc : c < 97) : wl T L e = 0 := wl_0 (fun z => by
  have h1 := (isS_iff.mp h).2
  have h2 := pLo_iff.mp z.2
  omega)
theorem wl_plain {T : Nat → Nat} {L a : Nat} (ha : a ≤ L) : wl T L a ≤ en L (pPlain T L a) - a := by
  have h1 := wl_le (T := T) ha
  have h2 := sk_ge (T := T) (L := L) (a := a)
  have hp : wl T L a ≤ en L (pPart T L a) - a := by
    unfold pPart
    by_cases z : sk T L a < L ∧ pFi (T (sk T L a)) = true
    · have : wl T L a = 0 := wl_0 (fun q => by
        have h3 := pFi_iff.mp z.2
        have h4 := pLo_iff.mp q.2
        omega)
      omega
    · rw [if_neg z]
      rcases hf : pFact T L a with _ | i
      · show wl T L a ≤ L - a
        omega
      · show wl T L a ≤ wd T L (sk T L a) - a
        have : wl T L a = wd T L (sk T L a) - sk T L a := rfl
        omega
  have hs : wl T L a ≤ en L (pSum T L a) - a := by
    unfold pSum
    have hf := pPart_fw (T := T) ha
    rcases hr : pPart T L a with b | ⟨y, e⟩
    · show wl T L a ≤ L - a
      omega
    · rw [hr] at hp hf
      have h3 : a < e ∧ e ≤ L := hf
      have h4 : wl T L a ≤ e - a := hp
      have h5 := (pO_en (pSumL_fw (T := T) (k := L) (x := y) h3.2) h3.2).1
      show wl T L a ≤ en L (pSumL T L L y e) - a
      omega
  unfold pPlain
  by_cases z0 : isW (tw 15) T L a = true
  · rw [if_pos z0]
    show wl T L a ≤ afW (tw 15) T L a - a
    rw [afW_yes z0]
    have : wl T L a = wd T L (sk T L a) - sk T L a := rfl
    omega
  rw [if_neg z0]
  by_cases z1 : isW (tw 16) T L a = true
  · rw [if_pos z1]
    show wl T L a ≤ afW (tw 16) T L a - a
    rw [afW_yes z1]
    have : wl T L a = wd T L (sk T L a) - sk T L a := rfl
    omega
  rw [if_neg z1]
  have hf := pSum_fw (T := T) ha
  rcases hr : pSum T L a with b | ⟨y, e⟩
  · show wl T L a ≤ L - a
    omega
  · rw [hr] at hs hf
    have h3 : a < e ∧ e ≤ L := hf
    have h4 : wl T L a ≤ e - a := hs
    have hse := sk_ge (T := T) (L := L) (a := e)
    have aux : ∀ (g : Ev → Cd), sk T L e < L → e ≤ en L (pB (pSum T L (sk T L e + 1)) (fun y2 a2 => (.inr (g y2, a2) : Pz Cd))) := by
      intro g hl
      have hf2 := pSum_fw (T := T) (L := L) (a := sk T L e + 1) (by omega)
      rcases hr2 : pSum T L (sk T L e + 1) with b | ⟨y2, e2⟩
      · show e ≤ L
        omega
      · rw [hr2] at hf2
        have h6 : sk T L e + 1 < e2 ∧ e2 ≤ L := hf2
        show e ≤ e2
        omega
    show wl T L a ≤ en L (if isS 60 T L e = true then pB (pSum T L (sk T L e + 1)) (fun y2 a2 => (.inr (fun F => decide (y F < y2 F), a2) : Pz Cd)) else if isS 62 T L e = true then pB (pSum T L (sk T L e + 1)) (fun y2 a2 => .inr (fun F => decide (y2 F < y F), a2)) else .inl (sk T L e)) - a
    by_cases z2 : isS 60 T L e = true
    · rw [if_pos z2]
      have := aux (fun y2 F => decide (y F < y2 F)) (isS_iff.mp z2).1
      omega
    rw [if_neg z2]
    by_cases z3 : isS 62 T L e = true
    · rw [if_pos z3]
      have := aux (fun y2 F => decide (y2 F < y F)) (isS_iff.mp z3).1
      omega
    rw [if_neg z3]
    show wl T L a ≤ L - a
    omega
end AT
