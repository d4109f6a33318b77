/-! ===== PURE: hostBest guestBest of the twin ===== -/
/-- the twin's outcome, when rows 7, 8, 9 may change -/
def oT3 (o : Ot) (t : Nat) (V : Nat → Nat → Int32) (Q : Int32 → (Nat → Nat → Int32) → Prop) : Prop := match o with | .inl v => ∀ V', (∀ r, r ≠ t + 7 → r ≠ t + 8 → r ≠ t + 9 → V' r = vset V t 0 0 r) → Q v V' | .inr e => ∀ v, Q v (vset V t 0 e.2)
section PG8
variable {t : Nat} {V : Nat → Nat → Int32} {Q2 : Int32 → (Nat → Nat → Int32) → Prop} {h : Int32}
theorem s6_hostBest (hR : RowOk (V (t + 1))) (hq : oT3 (o_hostBest (V (t + 1)) h) t V Q2) : wX6_hostBest t V h Q2 := by
  unfold o_hostBest at hq
  refine s6_isHost (p_bn ?_)
  split
  · next c =>
    rw [if_pos c] at hq
    refine t_thr ?_
    rw [if_pos (by decide)]
    have e1 : vset V t 0 0 (t + 1) = V (t + 1) := vt1
    change ∀ V', (∀ r, r ≠ t + 7 → r ≠ t + 8 → r ≠ t + 9 → V' r = vset V t 0 0 r) → Q2 _ V' at hq
    rw [← e1] at hq hR c
    generalize vset V t 0 0 = V1 at *
    obtain ⟨i, hi, hi8, rfl⟩ := hR.host c
    rw [cl8 hi8] at hq ⊢
    refine s6_pairsH hR (fun V2 f p => ⟨in8 hi8, ?_⟩)
    rw [(p i hi8).1]
    exact hq V2 f
  · next c =>
    rw [if_neg c] at hq
    exact t_thr (by rw [if_neg (by decide)]; exact hq _)
theorem s6_guestBest (hR : RowOk (V (t + 1))) (hq : oT3 (o_guestBest (V (t + 1)) h) t V Q2) : wX6_guestBest t V h Q2 := by
  unfold o_guestBest at hq
  refine s6_isHost (p_bn ?_)
  split
  · next c =>
    rw [if_pos c] at hq
    refine t_thr ?_
    rw [if_pos (by decide)]
    have e1 : vset V t 0 0 (t + 1) = V (t + 1) := vt1
    change ∀ V', (∀ r, r ≠ t + 7 → r ≠ t + 8 → r ≠ t + 9 → V' r = vset V t 0 0 r) → Q2 _ V' at hq
    rw [← e1] at hq hR c
    generalize vset V t 0 0 = V1 at *
    obtain ⟨i, hi, hi8, rfl⟩ := hR.host c
    rw [cl8 hi8] at hq ⊢
    refine s6_pairsG hR (fun V2 f p => ⟨in8 hi8, ?_⟩)
    rw [(p i hi8).2]
    exact hq V2 f
  · next c =>
    rw [if_neg c] at hq
    exact t_thr (by rw [if_neg (by decide)]; exact hq _)
end PG8
