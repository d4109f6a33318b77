/-! ===== PURE: row of the twin ===== -/
theorem row_eq {m : Nat → Int32} {h : Nat} {a : Int32} (g8 : nG m ≤ 8) : fo (bestStep (fun k => (k < 2 ^ nG m ∧ subOf a k) ∧ ov m h k < 1000000)) 255 1 0 = f_row m h a := by
  obtain ⟨-, p2, p3⟩ := pow_nG ⟨nG m, by omega⟩
  simp only at p2 p3
  unfold f_row
  generalize 2 ^ nG m = E at *
  have e1 : fo (bestStep (fun k => subOf a k ∧ ov m h k < 1000000)) E 0 0 = fo (bestStep (fun k => subOf a k ∧ ov m h k < 1000000)) (E - 1) 1 0 := by
    rw [show E = 1 + (E - 1) by omega, fo_add 1 (E - 1) 0 0, show 1 + (E - 1) - 1 = E - 1 by omega]
    have : fo (bestStep (fun k => subOf a k ∧ ov m h k < 1000000)) 1 0 0 = 0 := by
      show (if (subOf a 0 ∧ ov m h 0 < 1000000) ∧ pc 0 < pc 0 then 0 else 0) = 0
      split <;> rfl
    rw [this]
  rw [e1, show (255 : Nat) = (E - 1) + (256 - E) by omega, fo_add]
  have e2 : fo (bestStep (fun k => (k < E ∧ subOf a k) ∧ ov m h k < 1000000)) (E - 1) 1 0 = fo (bestStep (fun k => subOf a k ∧ ov m h k < 1000000)) (E - 1) 1 0 := by
    refine fo_congr _ _ _ (fun j b h1 h2 => ?_)
    unfold bestStep
    by_cases c : (subOf a j ∧ ov m h j < 1000000) ∧ pc b < pc j
    · rw [if_pos c, if_pos ⟨⟨⟨by omega, c.1.1⟩, c.1.2⟩, c.2⟩]
    · rw [if_neg c, if_neg (fun q => c ⟨⟨q.1.1.2, q.1.2⟩, q.2⟩)]
  rw [e2]
  generalize fo (bestStep (fun k => subOf a k ∧ ov m h k < 1000000)) (E - 1) 1 0 = b0
  have := fo_inv (f := bestStep (fun k => (k < E ∧ subOf a k) ∧ ov m h k < 1000000)) (fun _ b => b = b0) (256 - E) (1 + (E - 1)) b0 rfl (fun j b h1 _ hb => by
    rw [hb]
    exact if_neg (fun q => by have := q.1.1.1; omega))
  exact this
section PR5
variable {t : Nat} {V : Nat → Nat → Int32} {Q : Int32 → Prop} {Q0 : (Nat → Nat → Int32) → Prop} {Q2 : Int32 → (Nat → Nat → Int32) → Prop} {h a s : Int32}
theorem s6_row (hR : RowOk (V (t + 1))) (hq : oTF (o_row (V (t + 1)) h a s) t V (t + 13) Q2) : wX6_row t V h a s Q2 := by
  unfold o_row at hq
  refine s6_isHost (p_bn ?_)
  split
  · next c =>
    rw [if_pos c] at hq
    refine t_thr ?_
    rw [if_pos (by decide)]
    have e1 : vset V t 0 0 (t + 1) = V (t + 1) := vt1
    change ∀ V', (∀ a, a ≠ t + 13 → V' a = vset V t 0 0 a) → Q2 _ V' at hq
    rw [← e1] at hq hR c
    generalize vset V t 0 0 = V1 at *
    have g8 := hR.G8
    obtain ⟨i, hi, hi8, rfl⟩ := hR.host c
    rw [cl8 hi8, ← row_eq g8] at hq
    refine s6_rowsOf hR hi8 (fun V2 f tab => ?_)
    have hq := hq V2 f
    refine fo_loopI (fun n b k => wX6_row_38 t (nI i) a s Q2 n V2 (nI b) (nI k)) (bestStep (fun k => (k < 2 ^ nG (V1 (t + 1)) ∧ subOf a k) ∧ ov (V1 (t + 1)) i k < 1000000)) (fun b => Q2 (if s = 0 then nI (pc b) else nI b) V2 ∧ b < 256) (fun _ b => b < 256) 256 ?_ (fun k b hk hb => best_lt (by decide) k b hk hb) ?_ 255 1 0 rfl (by decide) ⟨hq, ?_⟩
    · rintro n b ⟨hP, hb⟩
      rw [wX6_row_38]
      refine br_t (Int32.le_refl _) (br_c (fun z => ?_) (fun z => ?_))
      · rw [if_pos z] at hP; exact s6_bits (by omega) hP
      · rw [if_neg z] at hP; exact hP
    · intro n b k hk hb hK
      have ix : (2048 : Int32) + nI k = nI (2048 + k) := nI_add 2048 k
      have pk12 := pc_12 k
      have pb12 := pc_12 b
      unfold bestStep at hK
      rw [wX6_row_38, ix, nI_clamp (show 2048 + k < 2 ^ 31 by omega)]
      refine br_f (nI_ge hk (by decide)) ⟨vp_in_nI (by omega) (by decide), br_c (fun z => ?_) (fun z => ?_)⟩
      · rw [if_neg (fun q => (tab k hk).mpr ⟨q.1.1, q.1.2⟩ z)] at hK
        exact nm_r (nI_1 k) hK
      · have z1 := (tab k hk).mp z
        refine s6_bits (by omega) (s6_bits (by omega) (br_c (fun z2 => ?_) (fun z2 => ?_)))
        · have z3 := (nI_leI (by omega) (by omega)).mp z2
          rw [if_neg (fun q => by have := q.2; omega)] at hK
          exact nm_r (nI_1 k) hK
        · rw [if_pos ⟨⟨z1.1, z1.2⟩, Nat.not_le.mp fun q => z2 (nI_le q (by omega))⟩] at hK
          exact nm_r (nI_1 k) hK
    · have := fo_inv (f := bestStep (fun k => (k < 2 ^ nG (V1 (t + 1)) ∧ subOf a k) ∧ ov (V1 (t + 1)) i k < 1000000)) (fun _ b => b < 256) 255 1 0 (by decide) (fun j b h1 h2 hb => best_lt (by decide) j b (by omega) hb)
      exact this
  · next c =>
    rw [if_neg c] at hq
    exact t_thr (by rw [if_neg (by decide)]; exact hq _)
end PR5
