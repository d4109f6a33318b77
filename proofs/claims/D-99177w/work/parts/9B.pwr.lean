/-! ===== PURE: a world as a map of places; what changes with what ===== -/
def WM (H G b j k : Nat) : Prop :=
  (b = 0 ∧ ((j = 0 ∧ k = 0) ∨ (j = 1 ∧ k = 3) ∨ (j = 2 ∧ k = 4) ∨ (j = 3 ∧ k = 5) ∨ (j = 4 ∧ k = 7) ∨ (j = 5 ∧ k = 8) ∨ (j = 6 ∧ k = 6) ∨ (j = 7 ∧ k = 9) ∨ (j = 8 ∧ k = 10))) ∨
  (1 ≤ b ∧ b ≤ 4 ∧ j < H ∧ k = 10 + b + 4 * j) ∨ (5 ≤ b ∧ b ≤ 7 ∧ j < G ∧ k = 38 + b + 3 * j) ∨
  (9 ≤ b ∧ b < 9 + H ∧ j < G ∧ k = 67 + 8 * (b - 9) + j) ∨ (18 ≤ b ∧ b < 18 + G ∧ j < H ∧ k = 131 + 8 * (b - 18) + j) ∨
  (27 ≤ b ∧ b < 27 + H ∧ j < 8 ∧ k = 195 + 8 * (b - 27) + j) ∨ (b = 35 ∧ j < 360 ∧ k = 259 + j)
theorem wrel_iff {V : Nat → Nat → Int32} {w : Nat} {m : Nat → Int32} : WRel V w m ↔ ∀ b j k, WM (nH m) (nG m) b j k → V (w + b) j = m k := by
  constructor
  · intro h b j k z
    obtain ⟨⟨a0, a1, a2, a3, a4, a5, a6, a7, a8⟩, b1, b2, b3, b4, b5⟩ := h
    rcases z with ⟨rfl, z⟩ | ⟨z1, z2, z3, rfl⟩ | ⟨z1, z2, z3, rfl⟩ | ⟨z1, z2, z3, rfl⟩ | ⟨z1, z2, z3, rfl⟩ | ⟨z1, z2, z3, rfl⟩ | ⟨rfl, z3, rfl⟩
    · rcases z with ⟨rfl, rfl⟩ | ⟨rfl, rfl⟩ | ⟨rfl, rfl⟩ | ⟨rfl, rfl⟩ | ⟨rfl, rfl⟩ | ⟨rfl, rfl⟩ | ⟨rfl, rfl⟩ | ⟨rfl, rfl⟩ | ⟨rfl, rfl⟩
      · exact a0
      · exact a1
      · exact a2
      · exact a3
      · exact a4
      · exact a5
      · exact a6
      · exact a7
      · exact a8
    · obtain ⟨c1, c2, c3, c4⟩ := b1 j z3
      have : b = 1 ∨ b = 2 ∨ b = 3 ∨ b = 4 := by omega
      rcases this with rfl | rfl | rfl | rfl
      · exact c1
      · exact c2
      · exact c3
      · exact c4
    · obtain ⟨c1, c2, c3⟩ := b2 j z3
      have : b = 5 ∨ b = 6 ∨ b = 7 := by omega
      rcases this with rfl | rfl | rfl
      · exact c1
      · exact c2
      · exact c3
    · have := (b3 (b - 9) j (by omega) z3).1
      rw [show w + 8 + 1 + (b - 9) = w + b by omega] at this
      exact this
    · have := (b3 j (b - 18) z3 (by omega)).2
      rw [show w + 17 + 1 + (b - 18) = w + b by omega] at this
      exact this
    · have := b4 (b - 27) j (by omega) z3
      rw [show w + 26 + 1 + (b - 27) = w + b by omega] at this
      exact this
    · exact b5 j z3
  · intro h
    have c0 : ∀ {j k : Nat}, ((j = 0 ∧ k = 0) ∨ (j = 1 ∧ k = 3) ∨ (j = 2 ∧ k = 4) ∨ (j = 3 ∧ k = 5) ∨ (j = 4 ∧ k = 7) ∨ (j = 5 ∧ k = 8) ∨ (j = 6 ∧ k = 6) ∨ (j = 7 ∧ k = 9) ∨ (j = 8 ∧ k = 10)) → V w j = m k := fun {j k} z => h 0 j k (Or.inl ⟨rfl, z⟩)
    have c1 : ∀ {b j k : Nat}, 1 ≤ b ∧ b ≤ 4 ∧ j < nH m ∧ k = 10 + b + 4 * j → V (w + b) j = m k := fun {b j k} z => h b j k (Or.inr (Or.inl z))
    have c2 : ∀ {b j k : Nat}, 5 ≤ b ∧ b ≤ 7 ∧ j < nG m ∧ k = 38 + b + 3 * j → V (w + b) j = m k := fun {b j k} z => h b j k (Or.inr (Or.inr (Or.inl z)))
    have c3 : ∀ {b j k : Nat}, 9 ≤ b ∧ b < 9 + nH m ∧ j < nG m ∧ k = 67 + 8 * (b - 9) + j → V (w + b) j = m k := fun {b j k} z => h b j k (Or.inr (Or.inr (Or.inr (Or.inl z))))
    have c4 : ∀ {b j k : Nat}, 18 ≤ b ∧ b < 18 + nG m ∧ j < nH m ∧ k = 131 + 8 * (b - 18) + j → V (w + b) j = m k := fun {b j k} z => h b j k (Or.inr (Or.inr (Or.inr (Or.inr (Or.inl z)))))
    have c5 : ∀ {b j k : Nat}, 27 ≤ b ∧ b < 27 + nH m ∧ j < 8 ∧ k = 195 + 8 * (b - 27) + j → V (w + b) j = m k := fun {b j k} z => h b j k (Or.inr (Or.inr (Or.inr (Or.inr (Or.inr (Or.inl z))))))
    have c6 : ∀ {j k : Nat}, j < 360 ∧ k = 259 + j → V (w + 35) j = m k := fun {j k} z => h 35 j k (Or.inr (Or.inr (Or.inr (Or.inr (Or.inr (Or.inr ⟨rfl, z⟩))))))
    clear h
    refine ⟨⟨c0 (Or.inl ⟨rfl, rfl⟩), c0 (Or.inr (Or.inl ⟨rfl, rfl⟩)), c0 (Or.inr (Or.inr (Or.inl ⟨rfl, rfl⟩))), c0 (Or.inr (Or.inr (Or.inr (Or.inl ⟨rfl, rfl⟩)))), c0 (Or.inr (Or.inr (Or.inr (Or.inr (Or.inl ⟨rfl, rfl⟩))))), c0 (Or.inr (Or.inr (Or.inr (Or.inr (Or.inr (Or.inl ⟨rfl, rfl⟩)))))), c0 (Or.inr (Or.inr (Or.inr (Or.inr (Or.inr (Or.inr (Or.inl ⟨rfl, rfl⟩))))))), c0 (Or.inr (Or.inr (Or.inr (Or.inr (Or.inr (Or.inr (Or.inr (Or.inl ⟨rfl, rfl⟩)))))))), c0 (Or.inr (Or.inr (Or.inr (Or.inr (Or.inr (Or.inr (Or.inr (Or.inr ⟨rfl, rfl⟩))))))))⟩, fun i hi => ⟨c1 (b := 1) ⟨by decide, by decide, hi, by omega⟩, c1 (b := 2) ⟨by decide, by decide, hi, by omega⟩, c1 (b := 3) ⟨by decide, by decide, hi, by omega⟩, c1 (b := 4) ⟨by decide, by decide, hi, by omega⟩⟩, fun i hi => ⟨c2 (b := 5) ⟨by decide, by decide, hi, by omega⟩, c2 (b := 6) ⟨by decide, by decide, hi, by omega⟩, c2 (b := 7) ⟨by decide, by decide, hi, by omega⟩⟩, fun i g hi hg => ⟨?_, ?_⟩, fun i q hi hq => ?_, fun k hk => c6 ⟨hk, rfl⟩⟩
    · have := c3 (b := 9 + i) (j := g) (k := 67 + 8 * i + g) ⟨by omega, by omega, hg, by omega⟩
      rw [show w + (9 + i) = w + 8 + 1 + i by omega] at this
      exact this
    · have := c4 (b := 18 + g) (j := i) (k := 131 + 8 * g + i) ⟨by omega, by omega, hi, by omega⟩
      rw [show w + (18 + g) = w + 17 + 1 + g by omega] at this
      exact this
    · have := c5 (b := 27 + i) (j := q) (k := 195 + 8 * i + q) ⟨by omega, by omega, hq, by omega⟩
      rw [show w + (27 + i) = w + 26 + 1 + i by omega] at this
      exact this
section WR
variable {V V' : Nat → Nat → Int32} {w : Nat} {m m' : Nat → Int32}
theorem nH_e (h : m' 3 = m 3) : nH m' = nH m := by unfold nH; rw [h]
theorem nG_e (h : m' 4 = m 4) : nG m' = nG m := by unfold nG; rw [h]
/-- what changes with what -/
theorem WRel.chg (hW : WRel V w m) (e3 : m' 3 = m 3) (e4 : m' 4 = m 4) (h : ∀ b j k, WM (nH m) (nG m) b j k → (V' (w + b) j = V (w + b) j ∧ m' k = m k) ∨ V' (w + b) j = m' k) : WRel V' w m' := by
  rw [wrel_iff, nH_e e3, nG_e e4]
  intro b j k z
  rcases h b j k z with ⟨h1, h2⟩ | h1
  · rw [h1, h2]
    exact wrel_iff.mp hW b j k z
  · exact h1
theorem WRel.put {b0 j0 k0 : Nat} {v : Int32} (hW : WRel V w m) (hk : k0 ≠ 3 ∧ k0 ≠ 4) (h : ∀ b j k, WM (nH m) (nG m) b j k → (b = b0 ∧ j = j0 ↔ k = k0)) : WRel (vset V (w + b0) j0 v) w (upd m k0 v) := by
  refine hW.chg (upd_n (Ne.symm hk.1)) (upd_n (Ne.symm hk.2)) (fun b j k z => ?_)
  by_cases q : k = k0
  · right
    obtain ⟨rfl, rfl⟩ := (h b j k z).mpr q
    rw [vset_at, if_pos rfl, q, upd_s]
  · left
    refine ⟨?_, upd_n q⟩
    by_cases y : b = b0
    · rw [y, vset_at, if_neg (fun y2 => q ((h b j k z).mp ⟨y, y2⟩))]
    · rw [vset_n _ _ _ (by omega)]
theorem WRel.other {b0 j0 : Nat} {v : Int32} (hW : WRel V w m) (h : ∀ b j k, WM (nH m) (nG m) b j k → ¬ (w + b = b0 ∧ j = j0)) : WRel (vset V b0 j0 v) w m := by
  refine hW.chg rfl rfl (fun b j k z => Or.inl ⟨?_, rfl⟩)
  by_cases y : w + b = b0
  · rw [y, vset_at, if_neg (fun y2 => h b j k z ⟨y, y2⟩)]
  · rw [vset_n _ _ _ y]
end WR
