/-! ===== PURE: a world likened to another one; rows alike but for the log ===== -/
section LK
variable {sh : List jH} {V : Nat → Nat → Int32} {R : Nat → Nat → Option Nat} {x w w1 : Nat} {m : Nat → Int32}
theorem s2_likens {P : (Nat → Nat → Int32) → (Nat → Nat → Option Nat) → Prop} (hW : WRel V w1 m) (h8 : nH m ≤ 8) (g8 : nG m ≤ 8) (hd : w + 36 ≤ w1 ∨ w1 + 36 ≤ w) (hq : ∀ V', (∀ b, (b < w ∨ w + 36 ≤ b) → V' b = V b) → WRel V' w m → V' w 21 = 0 → P V' (rset R w 20 (R w1 20))) : wX2_likens w w1 sh V R P := by
  have r1 : ∀ (V0 : Nat → Nat → Int32) (i j : Nat) (y : Int32), vset V0 w i y w1 j = V0 w1 j := fun V0 i j y => by rw [vset_n _ _ _ (by omega)]
  unfold wX2_likens
  refine nm_e ?_
  rw [r1]
  refine nm_e ?_
  rw [r1, r1]
  refine nm_e ?_
  rw [r1, r1, r1]
  refine nm_e ?_
  rw [r1, r1, r1, r1]
  refine nm_e ?_
  rw [r1, r1, r1, r1, r1]
  refine nm_e ?_
  rw [r1, r1, r1, r1, r1, r1]
  refine nm_e ?_
  rw [r1, r1, r1, r1, r1, r1, r1]
  refine nm_e ?_
  rw [r1, r1, r1, r1, r1, r1, r1, r1]
  refine nm_e (nm_e ?_)
  generalize hV1 : vset (vset (vset (vset (vset (vset (vset (vset (vset V w 0 (V w1 0)) w 1 (V w1 1)) w 2 (V w1 2)) w 3 (V w1 3)) w 4 (V w1 4)) w 5 (V w1 5)) w 6 (V w1 6)) w 7 (V w1 7)) w 8 (V w1 8) = V1
  have f1 : ∀ b, b ≠ w → V1 b = V b := fun b hb => by rw [← hV1, vset_n _ _ _ hb, vset_n _ _ _ hb, vset_n _ _ _ hb, vset_n _ _ _ hb, vset_n _ _ _ hb, vset_n _ _ _ hb, vset_n _ _ _ hb, vset_n _ _ _ hb, vset_n _ _ _ hb]
  have v1 : ∀ j, j ≤ 8 → V1 w j = V w1 j := fun j hj => by
    rw [← hV1, vset_at, vset_at, vset_at, vset_at, vset_at, vset_at, vset_at, vset_at, vset_at]
    match j, hj with
    | 0, _ => rfl
    | 1, _ => rfl
    | 2, _ => rfl
    | 3, _ => rfl
    | 4, _ => rfl
    | 5, _ => rfl
    | 6, _ => rfl
    | 7, _ => rfl
    | 8, _ => rfl
  clear hV1
  have cp : ∀ (V0 : Nat → Nat → Int32) (i N : Nat), (∀ b, (b < w ∨ w + 36 ≤ b) → V0 b = V b) → 1 ≤ i → i < 36 → (∀ b, b ≠ w + i → vcpy V0 (w1 + i) (w + i) 0 0 N b = V0 b) ∧ (∀ j, j < N → vcpy V0 (w1 + i) (w + i) 0 0 N (w + i) j = V (w1 + i) j) := by
    intro V0 i N h0 h1 h2
    refine ⟨fun b hb => vcpy_n _ _ _ _ hb, fun j hj => ?_⟩
    rw [vcpy_s, pk_cpy_in (by omega) (by omega), h0 (w1 + i) (by omega)]
    exact congrArg (V (w1 + i)) (by omega)
  -- rows done are kept by later copies
  have chain : ∀ (V0 : Nat → Nat → Int32) (D : Nat → Nat → Prop) (i N : Nat), ((∀ b, (b < w ∨ w + 36 ≤ b) → V0 b = V b) ∧ (∀ b j, D b j → V0 (w + b) j = V (w1 + b) j)) → 1 ≤ i → i < 36 → (∀ j, ¬ D i j) → ((∀ b, (b < w ∨ w + 36 ≤ b) → vcpy V0 (w1 + i) (w + i) 0 0 N b = V b) ∧ (∀ b j, (D b j ∨ (b = i ∧ j < N)) → vcpy V0 (w1 + i) (w + i) 0 0 N (w + b) j = V (w1 + b) j)) := by
    intro V0 D i N h h1 h2 h3
    obtain ⟨c1, c2⟩ := cp V0 i N h.1 h1 h2
    refine ⟨fun b hb => by rw [c1 b (by omega)]; exact h.1 b hb, fun b j hbj => ?_⟩
    rcases hbj with z | ⟨rfl, z⟩
    · have hbi : b ≠ i := fun q => h3 j (q ▸ z)
      rw [c1 (w + b) (by omega)]
      exact h.2 b j z
    · exact c2 j z
  have s0 : (∀ b, (b < w ∨ w + 36 ≤ b) → V1 b = V b) ∧ (∀ b j, (b = 0 ∧ j ≤ 8) → V1 (w + b) j = V (w1 + b) j) := ⟨fun b hb => f1 b (by omega), fun b j hbj => by obtain ⟨rfl, hj⟩ := hbj; exact v1 j hj⟩
  have s1 := chain V1 _ 1 8 s0 (by decide) (by decide) (fun j q => by omega)
  have s2 := chain _ _ 2 8 s1 (by decide) (by decide) (fun j q => by omega)
  have s3 := chain _ _ 3 8 s2 (by decide) (by decide) (fun j q => by omega)
  have s4 := chain _ _ 4 8 s3 (by decide) (by decide) (fun j q => by omega)
  have s5 := chain _ _ 5 8 s4 (by decide) (by decide) (fun j q => by omega)
  have s6 := chain _ _ 6 8 s5 (by decide) (by decide) (fun j q => by omega)
  have s7 := chain _ _ 7 8 s6 (by decide) (by decide) (fun j q => by omega)
  generalize vcpy (vcpy (vcpy (vcpy (vcpy (vcpy (vcpy V1 (w1 + 1) (w + 1) 0 0 8) (w1 + 2) (w + 2) 0 0 8) (w1 + 3) (w + 3) 0 0 8) (w1 + 4) (w + 4) 0 0 8) (w1 + 5) (w + 5) 0 0 8) (w1 + 6) (w + 6) 0 0 8) (w1 + 7) (w + 7) 0 0 8 = V2 at s7 ⊢
  have s8 : (∀ b, (b < w ∨ w + 36 ≤ b) → V2 b = V b) ∧ (∀ b j, ((b = 0 ∧ j ≤ 8) ∨ (1 ≤ b ∧ b ≤ 7 ∧ j < 8)) → V2 (w + b) j = V (w1 + b) j) := ⟨s7.1, fun b j z => s7.2 b j (by omega)⟩
  clear s0 s1 s2 s3 s4 s5 s6 s7
  refine ⟨_, vloop (fun n (c : Nat → Nat → Int32) k => wX2_likens_159 w w1 sh P n c (rset R w 20 (R w1 20)) (nI k)) (fun k c => (∀ b, (b < w ∨ w + 36 ≤ b) → c b = V b) ∧ (∀ b j, ((b = 0 ∧ j ≤ 8) ∨ (1 ≤ b ∧ b ≤ 7 ∧ j < 8) ∨ (9 ≤ b ∧ b < 9 + k ∧ j < 8) ∨ (18 ≤ b ∧ b < 18 + k ∧ j < 8) ∨ (27 ≤ b ∧ b < 27 + k ∧ j < 8)) → c (w + b) j = V (w1 + b) j)) 8 ?_ ?_ 8 0 V2 (Nat.zero_add _) ⟨s8.1, fun b j z => s8.2 b j (by omega)⟩⟩
  · intro n c hI
    rw [wX2_likens_159]
    have t1 := chain c _ 35 360 hI (by decide) (by decide) (fun j q => by omega)
    refine br_t (by decide) (hq _ (fun b hb => by rw [vset_n _ _ _ (by omega)]; exact t1.1 b hb) (wrel_iff.mpr (fun b j k z => ?_)) (by rw [vset_at, if_pos rfl]))
    have e : vset (vcpy c (w1 + 35) (w + 35) 0 0 360) w 21 0 (w + b) j = vcpy c (w1 + 35) (w + 35) 0 0 360 (w + b) j := by
      rcases Nat.eq_zero_or_pos b with rfl | hb
      · have : j ≤ 8 := by
          rcases WM_cases z h8 g8 with z | z | z | z | z <;> omega
        rw [show w + 0 = w from rfl, vset_at, if_neg (by omega)]
      · rw [vset_n _ _ _ (by omega)]
    rw [e, t1.2 b j ?_]
    · exact wrel_iff.mp hW b j k z
    · rcases z with ⟨rfl, z⟩ | ⟨z1, z2, z3, z4⟩ | ⟨z1, z2, z3, z4⟩ | ⟨z1, z2, z3, z4⟩ | ⟨z1, z2, z3, z4⟩ | ⟨z1, z2, z3, z4⟩ | ⟨z1, z3, z4⟩
      · exact Or.inl (Or.inl ⟨rfl, by omega⟩)
      · exact Or.inl (Or.inr (Or.inl (by omega)))
      · exact Or.inl (Or.inr (Or.inl (by omega)))
      · exact Or.inl (Or.inr (Or.inr (Or.inl (by omega))))
      · exact Or.inl (Or.inr (Or.inr (Or.inr (Or.inl (by omega)))))
      · exact Or.inl (Or.inr (Or.inr (Or.inr (Or.inr (by omega)))))
      · exact Or.inr ⟨z1, z3⟩
  · intro n c k hk hI hnx
    rw [wX2_likens_159]
    have i8 : vp_in (nI k) 8 := in8 hk
    rw [cl8 hk]
    refine br_f (nI_ge hk (by decide)) ⟨i8, i8, i8, i8, i8, i8, nm_r (nI_1 k) (hnx _ ?_)⟩
    have t1 := chain c _ (9 + k) 8 hI (by omega) (by omega) (fun j q => by omega)
    have t2 := chain _ _ (18 + k) 8 t1 (by omega) (by omega) (fun j q => by omega)
    have t3 := chain _ _ (27 + k) 8 t2 (by omega) (by omega) (fun j q => by omega)
    rw [show w1 + 8 + 1 + k = w1 + (9 + k) by omega, show w + 8 + 1 + k = w + (9 + k) by omega, show w1 + 17 + 1 + k = w1 + (18 + k) by omega, show w + 17 + 1 + k = w + (18 + k) by omega, show w1 + 26 + 1 + k = w1 + (27 + k) by omega, show w + 26 + 1 + k = w + (27 + k) by omega]
    exact ⟨t3.1, fun b j z => t3.2 b j (by omega)⟩
end LK
