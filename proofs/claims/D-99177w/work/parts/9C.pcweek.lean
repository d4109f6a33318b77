/-! ===== PURE: the component's weeks ===== -/
theorem lim_lt {c y : Int32} : (if y < c then y else c) = lim c y := by
  unfold lim
  by_cases z : y < c
  · rw [if_pos z, if_pos (Int32.le_of_lt z)]
  · rw [if_neg z]
    split
    · next w => exact Int32.le_antisymm (Int32.not_lt.mp z) w
    · rfl
section CK
variable {sh : List jH} {V : Nat → Nat → Int32} {R : Nat → Nat → Option Nat} {x w : Nat} {m : Nat → Int32} {law : Option (List Ln)} {Q : Int32 → (Nat → Nat → Int32) → Prop} {P : (Nat → Nat → Int32) → Prop} {told : Bool}
theorem WM_cases {H G b j k : Nat} (h : WM H G b j k) (h8 : H ≤ 8) (g8 : G ≤ 8) : (b = 0 ∧ j ≤ 8 ∧ k ≤ 10 ∧ (j = 7 ↔ k = 9) ∧ (j = 6 ↔ k = 6) ∧ (j = 8 ↔ k = 10) ∧ k ≠ 1 ∧ k ≠ 2) ∨ (1 ≤ b ∧ b ≤ 4 ∧ j < H ∧ k = 10 + b + 4 * j) ∨ (5 ≤ b ∧ b < 27 ∧ 43 ≤ k ∧ k < 195) ∨ (27 ≤ b ∧ b < 27 + H ∧ j < 8 ∧ k = 195 + 8 * (b - 27) + j) ∨ (b = 35 ∧ j < 360 ∧ k = 259 + j) := by
  rcases h with ⟨rfl, z⟩ | ⟨z1, z2, z3, z4⟩ | ⟨z1, z2, z3, z4⟩ | ⟨z1, z2, z3, z4⟩ | ⟨z1, z2, z3, z4⟩ | ⟨z1, z2, z3, z4⟩ | ⟨z1, z3, z4⟩
  · left
    rcases z with ⟨rfl, rfl⟩ | ⟨rfl, rfl⟩ | ⟨rfl, rfl⟩ | ⟨rfl, rfl⟩ | ⟨rfl, rfl⟩ | ⟨rfl, rfl⟩ | ⟨rfl, rfl⟩ | ⟨rfl, rfl⟩ | ⟨rfl, rfl⟩ <;> decide
  · exact Or.inr (Or.inl ⟨z1, z2, z3, z4⟩)
  · exact Or.inr (Or.inr (Or.inl (by omega)))
  · exact Or.inr (Or.inr (Or.inl (by omega)))
  · exact Or.inr (Or.inr (Or.inl (by omega)))
  · exact Or.inr (Or.inr (Or.inr (Or.inl ⟨z1, z2, z3, z4⟩)))
  · exact Or.inr (Or.inr (Or.inr (Or.inr ⟨z1, z3, z4⟩)))
theorem s2_tells {h g q e j : Int32} (hW : WRel V w m) (h8 : nH m ≤ 8) (g8 : nG m ≤ 8) (hq : ∀ V', (∀ b, b ≠ w → b ≠ w + 35 → V' b = V b) → V' w 21 = V w 21 → WRel V' w (logR m h g q e j) → P V') : wX2_tells w V h g q e j P := by
  have h6 : V w 6 = m 6 := hW.week
  have h7 : V w 7 = m 9 := hW.1.2.2.2.2.2.2.2.1
  refine nm_e (nm_r lim_lt ?_)
  have e6 : vcpy V (w + 35) (w + 35) 0 6 354 w 6 = m 6 := by rw [vcpy_n _ _ _ _ (by omega)]; exact h6
  rw [e6]
  have e7 : vset (vset (vset (vset (vset (vset (vcpy V (w + 35) (w + 35) 0 6 354) (w + 35) 0 (m 6)) (w + 35) 1 h) (w + 35) 2 g) (w + 35) 3 q) (w + 35) 4 e) (w + 35) 5 j w 7 = m 9 := by
    rw [vset_n _ _ _ (by omega), vset_n _ _ _ (by omega), vset_n _ _ _ (by omega), vset_n _ _ _ (by omega), vset_n _ _ _ (by omega), vset_n _ _ _ (by omega), vcpy_n _ _ _ _ (by omega)]
    exact h7
  rw [e7]
  generalize hV' : vset (vset (vset (vset (vset (vset (vset (vcpy V (w + 35) (w + 35) 0 6 354) (w + 35) 0 (m 6)) (w + 35) 1 h) (w + 35) 2 g) (w + 35) 3 q) (w + 35) 4 e) (w + 35) 5 j) w 7 (lim 60 (m 9 + 1)) = V'
  have fo : ∀ b, b ≠ w → b ≠ w + 35 → V' b = V b := fun b h1 h2 => by
    rw [← hV', vset_n _ _ _ h1, vset_n _ _ _ h2, vset_n _ _ _ h2, vset_n _ _ _ h2, vset_n _ _ _ h2, vset_n _ _ _ h2, vset_n _ _ _ h2, vcpy_n _ _ _ _ h2]
  have fw9 : ∀ i, V' w i = if i = 7 then lim 60 (m 9 + 1) else V w i := fun i => by
    rw [← hV', vset_at]
    split
    · rfl
    · rw [vset_n _ _ _ (by omega), vset_n _ _ _ (by omega), vset_n _ _ _ (by omega), vset_n _ _ _ (by omega), vset_n _ _ _ (by omega), vset_n _ _ _ (by omega), vcpy_n _ _ _ _ (by omega)]
  have fl : ∀ i, V' (w + 35) i = if i = 5 then j else if i = 4 then e else if i = 3 then q else if i = 2 then g else if i = 1 then h else if i = 0 then m 6 else va_cpy (V (w + 35)) (V (w + 35)) 0 6 354 i := fun i => by
    rw [← hV', vset_n _ _ _ (by omega), vset_at, vset_at, vset_at, vset_at, vset_at, vset_at, vcpy_s]
  refine hq V' fo (by rw [fw9]; rfl) (hW.chg (log_j (by omega)) (log_j (by omega)) (fun b i k z => ?_))
  rcases WM_cases z h8 g8 with ⟨rfl, z1, z2, z3, -⟩ | ⟨z1, z2, z3, z4⟩ | ⟨z1, z2, z3, z4⟩ | ⟨z1, z2, z3, z4⟩ | ⟨rfl, z1, rfl⟩
  · by_cases y : i = 7
    · right
      rw [show w + 0 = w from rfl, fw9, if_pos y, z3.mp y]
      exact (if_pos rfl).symm
    · left
      refine ⟨by rw [show w + 0 = w from rfl, fw9, if_neg y], log_j ⟨fun y2 => y (z3.mpr y2), by omega⟩⟩
  · exact Or.inl ⟨by rw [fo _ (by omega) (by omega)], log_j (by omega)⟩
  · exact Or.inl ⟨by rw [fo _ (by omega) (by omega)], log_j (by omega)⟩
  · exact Or.inl ⟨by rw [fo _ (by omega) (by omega)], log_j (by omega)⟩
  · right
    rw [fl]
    unfold logR
    by_cases y0 : i = 0
    · subst y0; rfl
    by_cases y1 : i = 1
    · subst y1; rfl
    by_cases y2 : i = 2
    · subst y2; rfl
    by_cases y3 : i = 3
    · subst y3; rfl
    by_cases y4 : i = 4
    · subst y4; rfl
    by_cases y5 : i = 5
    · subst y5; rfl
    rw [if_neg y5, if_neg y4, if_neg y3, if_neg y2, if_neg y1, if_neg y0, if_neg (show ¬ 259 + i = 9 by omega), if_neg (show ¬ 259 + i = 259 by omega), if_neg (show ¬ 259 + i = 260 by omega), if_neg (show ¬ 259 + i = 261 by omega), if_neg (show ¬ 259 + i = 262 by omega), if_neg (show ¬ 259 + i = 263 by omega), if_neg (show ¬ 259 + i = 264 by omega), if_pos (show 264 < 259 + i ∧ 259 + i < 619 by omega), pk_cpy_in (by omega) (by omega)]
    have := hW.2.2.2.2.2 (0 + (i - 6)) (by omega)
    rw [this]
    exact congrArg m (by omega)
theorem s9_fill {p : Nat} {v : Int32} (hq : P (vrow V p (fun j => if j < 8 then v else V p j))) : wJ9_fill p V v P := by
  suffices H : ∀ u k, k + u = 8 → wJ9_fill_5 p v P (u + 1) (vrow V p (fun j => if j < k then v else V p j)) (nI k) 8 from by
    have h9 := H 8 0 rfl
    rw [show (fun j => if j < 0 then v else V p j) = V p by funext j; exact if_neg (by omega), vrow_id] at h9
    exact ⟨_, h9⟩
  intro u
  induction u with
  | zero =>
    intro k hk
    obtain rfl : k = 8 := by omega
    rw [wJ9_fill_5]
    exact br_t (by decide) hq
  | succ u ih =>
    intro k hk
    rw [wJ9_fill_5, nI_clamp (by omega), vset_row]
    refine br_f (nI_ge (b := 8) (by omega) (by decide)) ⟨vp_in_nI (by omega) (by decide), nm_r (nI_1 k) ?_⟩
    have e : upd (fun j => if j < k then v else V p j) k v = (fun j => if j < k + 1 then v else V p j) := by
      funext j
      show (if j = k then v else if j < k then v else V p j) = _
      by_cases y : j = k
      · rw [if_pos y, if_pos (by omega)]
      · rw [if_neg y]
        by_cases y2 : j < k
        · rw [if_pos y2, if_pos (by omega)]
        · rw [if_neg y2, if_neg (by omega)]
    rw [e]
    exact ih (k + 1) (by omega)
theorem s2_settles {met : Int32} {h : Nat} (hW : WRel V w m) (hR : RowOk m) (hh : h < nH m) (hq : ∀ V', (∀ b, (b < w ∨ w + 36 ≤ b) → V' b = V b) → WRel V' w (closeS told met h (m, V w 21)).1 → V' w 21 = (closeS told met h (m, V w 21)).2 → P V') : wX2_settles w V (nI h) (b2i (isOf met (nI h))) (b2i (told = true)) P := by
  have h8 := hR.H8; have g8 := hR.G8
  have main : ∀ l, l = lonR m h met → wX2_settles_26 w (nI h) (b2i (isOf met (nI h))) (b2i (told = true)) P V (nI h) l := by
    intro l hl
    have W1 : WRel (vset V (w + 4) h l) w (upd m (14 + 4 * h) l) := hW.put ⟨by omega, by omega⟩ (fun b j k z => by
      rcases WM_cases z h8 g8 with z | z | z | z | z <;> omega)
    refine ⟨in8 (by omega), in8 (by omega), in8 (by omega), ?_⟩
    rw [cl8 (show h < 8 by omega)]
    have e1 : vset V (w + 4) h l (w + 1) h = m (11 + 4 * h) := by rw [vset_n _ _ _ (by omega)]; exact (hW.2.1 h hh).1
    have e4 : vset V (w + 4) h l (w + 4) h = l := by rw [vset_at, if_pos rfl]
    rw [e1, e4]
    unfold closeS at hq
    refine ⟨fun z => ?_, fun z => ?_⟩
    · rw [hl] at z
      rw [if_pos z, ← hl] at hq
      refine ⟨in8 (by omega), s9_fill ?_⟩
      rw [cl8 (show h < 8 by omega)]
      generalize hV2 : vrow (vset V (w + 4) h l) (w + 26 + 1 + h) (fun j => if j < 8 then -1 else vset V (w + 4) h l (w + 26 + 1 + h) j) = V2
      have W2 : WRel V2 w (clr (upd m (14 + 4 * h) l) h) := W1.chg (if_neg (by omega)) (if_neg (by omega)) (fun b j k z => by
        rw [← hV2]
        have e3 : nH (upd m (14 + 4 * h) l) = nH m := nH_e (upd_n (by omega))
        have e5 : nG (upd m (14 + 4 * h) l) = nG m := nG_e (upd_n (by omega))
        rw [e3, e5] at z
        unfold clr
        rcases WM_cases z h8 g8 with z | z | z | z | z
        · exact Or.inl ⟨by rw [vrow_n _ _ (by omega)], if_neg (by omega)⟩
        · exact Or.inl ⟨by rw [vrow_n _ _ (by omega)], if_neg (by omega)⟩
        · exact Or.inl ⟨by rw [vrow_n _ _ (by omega)], if_neg (by omega)⟩
        · by_cases y : b = 27 + h
          · right
            rw [show w + b = w + 26 + 1 + h by omega, vrow_s, if_pos z.2.2.1, if_pos (by omega)]
          · exact Or.inl ⟨by rw [vrow_n _ _ (by omega)], if_neg (by omega)⟩
        · exact Or.inl ⟨by rw [vrow_n _ _ (by omega)], if_neg (by omega)⟩)
      have f2 : ∀ b, (b < w ∨ w + 36 ≤ b) → V2 b = V b := fun b hb => by rw [← hV2, vrow_n _ _ (by omega), vset_n _ _ _ (by omega)]
      have s2 : V2 w 21 = V w 21 := by rw [← hV2, vrow_n _ _ (by omega), vset_n _ _ _ (by omega)]
      have n3 : nH (clr (upd m (14 + 4 * h) l) h) = nH m := nH_e (by rw [show clr (upd m (14 + 4 * h) l) h 3 = upd m (14 + 4 * h) l 3 from if_neg (by omega)]; exact upd_n (by omega))
      have n4 : nG (clr (upd m (14 + 4 * h) l) h) = nG m := nG_e (by rw [show clr (upd m (14 + 4 * h) l) h 4 = upd m (14 + 4 * h) l 4 from if_neg (by omega)]; exact upd_n (by omega))
      refine ⟨in8 (by omega), nm_e ?_⟩
      have W3 : WRel (vset V2 (w + 4) h 0) w (upd (clr (upd m (14 + 4 * h) l) h) (14 + 4 * h) 0) := W2.put ⟨by omega, by omega⟩ (fun b j k z => by
        rw [n3, n4] at z
        rcases WM_cases z h8 g8 with z | z | z | z | z <;> omega)
      have e21 : vset V2 (w + 4) h 0 w 21 = V w 21 := by rw [vset_n _ _ _ (by omega)]; exact s2
      rw [e21]
      have n5 : nH (upd (clr (upd m (14 + 4 * h) l) h) (14 + 4 * h) 0) = nH m := (nH_e (upd_n (by omega))).trans n3
      have n6 : nG (upd (clr (upd m (14 + 4 * h) l) h) (14 + 4 * h) 0) = nG m := (nG_e (upd_n (by omega))).trans n4
      have W4 : WRel (vset (vset V2 (w + 4) h 0) w 21 (V w 21 ||| ((1 : Int32) <<< (nI h &&& 31)))) w (upd (clr (upd m (14 + 4 * h) l) h) (14 + 4 * h) 0) := W3.other (fun b j k z => by
        rw [n5, n6] at z
        rcases WM_cases z h8 g8 with z | z | z | z | z <;> omega)
      have f4 : ∀ b, (b < w ∨ w + 36 ≤ b) → vset (vset V2 (w + 4) h 0) w 21 (V w 21 ||| ((1 : Int32) <<< (nI h &&& 31))) b = V b := fun b hb => by rw [vset_n _ _ _ (by omega), vset_n _ _ _ (by omega), f2 b hb]
      have s4 : vset (vset V2 (w + 4) h 0) w 21 (V w 21 ||| ((1 : Int32) <<< (nI h &&& 31))) w 21 = V w 21 ||| ((1 : Int32) <<< (nI h &&& 31)) := by rw [vset_at, if_pos rfl]
      refine ⟨fun zt => ?_, fun zt => ?_⟩
      · have ht : told = false := Bool.eq_false_iff.mpr (b2i_0.mp zt)
        rw [ht] at hq
        exact hq _ f4 W4 s4
      · have ht : told = true := Classical.byContradiction fun y => zt (b2i_f y)
        rw [ht] at hq
        refine s2_tells W4 (by rw [n5]; exact h8) (by rw [n6]; exact g8) (fun V5 g1 g2 g3 => hq V5 (fun b hb => by rw [g1 b (by omega) (by omega), f4 b hb]) g3 (by rw [g2, s4]))
    · rw [hl] at z
      rw [if_neg z, ← hl] at hq
      exact hq _ (fun b hb => vset_n _ _ _ (by omega)) W1 (by rw [vset_n _ _ _ (by omega)])
  have hlon : V (w + 4) h = m (14 + 4 * h) := hW.lonely hh
  refine ⟨fun z => ⟨in8 (by omega), ?_⟩, fun z => main 0 ?_⟩
  · rw [cl8 (show h < 8 by omega), hlon, lim_lt]
    refine main _ ?_
    unfold lonR
    rw [if_neg (b2i_0.mp z)]
  · unfold lonR
    rw [if_pos (Classical.byContradiction fun q => z (b2i_f q))]
end CK
