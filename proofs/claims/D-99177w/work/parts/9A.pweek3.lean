/-! ===== PURE: the twin goes through weeks ===== -/
section WG
variable {sh : List jH} {V : Nat → Nat → Int32} {R : Nat → Nat → Option Nat} {t : Nat} {law : Option (List Ln)} {Q : Int32 → (Nat → Nat → Int32) → Prop} {P : (Nat → Nat → Int32) → Prop}
theorem s6_draw {Q : Int32 → (Nat → Nat → Int32) → Prop} (hq : Q (drawV (V (t + 1) 10)) (vrow V (t + 1) (upd (V (t + 1)) 10 (drawN (V (t + 1) 10))))) : wX6_draw t V 100 Q := by
  refine nm_e ⟨by decide, ?_⟩
  have e : vset V (t + 1) 10 ((1103515245 : Int32) * V (t + 1) 10 + 12345) (t + 1) 10 = drawN (V (t + 1) 10) := by rw [vset_at, if_pos rfl]; rfl
  rw [e]
  exact hq
theorem s6_goes {N : Nat} {draws : Bool} (hC : ConSh sh) (hR : RowOk (V (t + 1))) (hL : LawT (V (t + 1)) law) (h15 : jz (V t 15)) (h16 : jz (V t 16)) (hN : N ≤ 60) (hq : ∀ V', TwF V t V' → V' (t + 1) = (weeksR true draws law N (V (t + 1))).1 → V' t 20 = (weeksR true draws law N (V (t + 1))).2.2 → Q (weeksR true draws law N (V (t + 1))).2.1 V') : wX6_goes t sh R V (nI N) (b2i (draws = true)) Q := by
  have hH := hR.H; have h8 := hR.H8
  obtain ⟨m, hm⟩ : ∃ m, m = V (t + 1) := ⟨_, rfl⟩
  rw [← hm] at hR hL hq hH h8
  have f0 : TwF V t (vset V t 20 0) := (TwF.refl h15 h16).set20
  refine ⟨_, vloop (fun n (b : (Nat → Nat → Int32) × Int32) i => wX6_goes_10 t sh R (nI N) (b2i (draws = true)) Q n b.1 b.2 (nI i)) (fun i b => TwF V t b.1 ∧ WkS m (b.1 (t + 1)) ∧ fo (weekS true draws law) (N - i) i (b.1 (t + 1), b.2, b.1 t 20) = weeksR true draws law N m) N ?_ ?_ N 0 (vset V t 20 0, 0) (Nat.zero_add _) ⟨f0, ?_, ?_⟩⟩
  · intro n b hI
    obtain ⟨f1, f2, f3⟩ := hI
    show wX6_goes_10 t sh R (nI N) (b2i (draws = true)) Q (n + 1) b.1 b.2 (nI N)
    rw [fo_end] at f3
    rw [wX6_goes_10]
    have h9 := hq b.1 f1
    rw [← f3] at h9
    exact br_t (Int32.le_refl _) (h9 rfl rfl)
  · intro n b i hi hI hk
    obtain ⟨f1, f2, f3⟩ := hI
    rw [fo_pop hi] at f3
    show wX6_goes_10 t sh R (nI N) (b2i (draws = true)) Q (n + 1) b.1 b.2 (nI i)
    rw [wX6_goes_10]
    obtain ⟨m1, hm1⟩ : ∃ m1, m1 = b.1 (t + 1) := ⟨_, rfl⟩
    rw [← hm1] at f2 f3
    have hH1 : nH m1 = nH m := f2.1.nH
    obtain ⟨A, hA⟩ : ∃ A, A = fo (quartS true draws law) 8 0 (m1, (0 : Int32), b.2) := ⟨_, rfl⟩
    obtain ⟨B, hB⟩ : ∃ B, B = fo (closeS true A.2.1) (nH m1) 0 (A.1, b.1 t 20) := ⟨_, rfl⟩
    have hw : weekS true draws law i (m1, b.2, b.1 t 20) = (upd B.1 6 (lim 9999 (B.1 6 + 1)), A.2.2, B.2) := by
      rw [hB, hA]
      rfl
    rw [hw] at f3
    -- behind the quarters
    have shut : ∀ V1, TwF V t V1 → WkS m (V1 (t + 1)) → V1 (t + 1) = A.1 → V1 t 20 = b.1 t 20 → ∃ f9, wX6_goes_83 t sh R (nI N) (b2i (draws = true)) Q (fun V x3 x4 => wX6_goes_10 t sh R (nI N) (b2i (draws = true)) Q n V x3 x4) f9 V1 A.2.2 (nI i) A.2.1 (0 : Int32) := by
      intro V1 g1 g2 g3 g4
      refine ⟨_, vloop (fun n2 (c : (Nat → Nat → Int32) × Int32) h => wX6_goes_83 t sh R (nI N) (b2i (draws = true)) Q (fun V x3 x4 => wX6_goes_10 t sh R (nI N) (b2i (draws = true)) Q n V x3 x4) n2 c.1 A.2.2 (nI i) A.2.1 (nI h)) (fun h c => TwF V t c.1 ∧ WkS m (c.1 (t + 1)) ∧ fo (closeS true A.2.1) (nH m - h) h (c.1 (t + 1), c.1 t 20) = B) (nH m) ?_ ?_ (nH m) 0 (V1, 0) (Nat.zero_add _) ⟨g1, g2, by show fo _ _ 0 (V1 (t + 1), V1 t 20) = B; rw [g3, g4, hB, hH1]; rfl⟩⟩
      · intro n2 c hI
        obtain ⟨i1, i2, i3⟩ := hI
        show wX6_goes_83 t sh R (nI N) (b2i (draws = true)) Q (fun V x3 x4 => wX6_goes_10 t sh R (nI N) (b2i (draws = true)) Q n V x3 x4) (n2 + 1) c.1 A.2.2 (nI i) A.2.1 (nI (nH m))
        rw [fo_end] at i3
        rw [wX6_goes_83, i2.1 3 (by omega)]
        refine br_t (by rw [hH]; exact Int32.le_refl _) (s6_lim (nm_r (nI_1 i) (hk (vrow c.1 (t + 1) (upd (c.1 (t + 1)) 6 (lim 9999 (c.1 (t + 1) 6 + 1))), A.2.2) ⟨i1.put, ?_, ?_⟩)))
        · show WkS m (vrow c.1 (t + 1) _ (t + 1))
          rw [vrow_s]
          exact i2.trans (wk_upd (Or.inl rfl))
        · show fo (weekS true draws law) (N - (i + 1)) (i + 1) (vrow c.1 (t + 1) _ (t + 1), A.2.2, vrow c.1 (t + 1) _ t 20) = _
          rw [vrow_s, vrow_n _ _ (by omega), ← f3, ← i3]
      · intro n2 c h hh hI hk2
        obtain ⟨i1, i2, i3⟩ := hI
        rw [fo_pop hh] at i3
        show wX6_goes_83 t sh R (nI N) (b2i (draws = true)) Q (fun V x3 x4 => wX6_goes_10 t sh R (nI N) (b2i (draws = true)) Q n V x3 x4) (n2 + 1) c.1 A.2.2 (nI i) A.2.1 (nI h)
        rw [wX6_goes_83, i2.1 3 (by omega)]
        refine br_f (by rw [hH]; exact nI_ge hh (by omega)) (s6_isOf (s6_closes (by omega) i1.2.2.1 i1.2.2.2 (fun V2 j1 j2 j3 => nm_r (nI_1 h) (hk2 (V2, 0) ⟨i1.trans j1, ?_, ?_⟩))))
        · show WkS m (V2 (t + 1))
          rw [j2]
          exact i2.trans (wk_closeS (by omega))
        · show fo (closeS true A.2.1) (nH m - (h + 1)) (h + 1) (V2 (t + 1), V2 t 20) = B
          rw [j2, j3]
          exact i3
    refine br_f (nI_ge hi (by omega)) ⟨_, vloop (fun n2 (c : (Nat → Nat → Int32) × Int32 × Int32) q => wX6_goes_22 t sh R (nI N) (b2i (draws = true)) Q (fun V x3 x4 => wX6_goes_10 t sh R (nI N) (b2i (draws = true)) Q n V x3 x4) n2 c.1 c.2.2 (nI i) c.2.1 (nI q)) (fun q c => TwF V t c.1 ∧ WkS m (c.1 (t + 1)) ∧ c.1 t 20 = b.1 t 20 ∧ fo (quartS true draws law) (8 - q) q (c.1 (t + 1), c.2.1, c.2.2) = A) 8 ?_ ?_ 8 0 (b.1, 0, b.2) (Nat.zero_add _) ⟨f1, by show WkS m (b.1 (t + 1)); rw [← hm1]; exact f2, rfl, by show fo _ _ 0 (b.1 (t + 1), _, _) = A; rw [← hm1, hA]⟩⟩
    · intro n2 c hI
      obtain ⟨i1, i2, i3, i4⟩ := hI
      show wX6_goes_22 t sh R (nI N) (b2i (draws = true)) Q (fun V x3 x4 => wX6_goes_10 t sh R (nI N) (b2i (draws = true)) Q n V x3 x4) (n2 + 1) c.1 c.2.2 (nI i) c.2.1 (nI 8)
      rw [fo_end] at i4
      rw [wX6_goes_22]
      have h9 := shut c.1 i1 i2 (by rw [← i4]) i3
      rw [← i4] at h9
      exact br_t (by decide) h9
    · intro n2 c q hq8 hI hk2
      obtain ⟨i1, i2, i3, i4⟩ := hI
      rw [fo_pop hq8] at i4
      show wX6_goes_22 t sh R (nI N) (b2i (draws = true)) Q (fun V x3 x4 => wX6_goes_10 t sh R (nI N) (b2i (draws = true)) Q n V x3 x4) (n2 + 1) c.1 c.2.2 (nI i) c.2.1 (nI q)
      rw [wX6_goes_22]
      have hHc : nH (c.1 (t + 1)) = nH m := i2.1.nH
      -- a quarter that stays dry
      have dry : ∀ V1 m1, TwF V t V1 → WkS m m1 → V1 (t + 1) = m1 → V1 t 20 = b.1 t 20 → quartS true draws law q (c.1 (t + 1), c.2.1, c.2.2) = fo (meetS true law q) (nH m1) 0 (m1, c.2.1, c.2.2) → wX6_goes_51 t sh R (nI N) (b2i (draws = true)) Q (fun V x3 x4 => wX6_goes_10 t sh R (nI N) (b2i (draws = true)) Q n V x3 x4) (fun V x3 x4 x5 x6 => wX6_goes_22 t sh R (nI N) (b2i (draws = true)) Q (fun V x3 x4 => wX6_goes_10 t sh R (nI N) (b2i (draws = true)) Q n V x3 x4) n2 V x3 x4 x5 x6) V1 c.2.2 (nI i) c.2.1 (nI q) := by
        intro V1 m1 g1 g2 g3 g4 g5
        subst g3
        have hR1 := g2.row hR
        refine s6_meet hC hR1 (g2.law hL) g1.2.2.1 g1.2.2.2 hq8 (fun V2 j1 j2 j3 => nm_e ?_)
        have off := meet_off (told := true) (law := law) (q := q) (nH (V1 (t + 1))) 0 (V1 (t + 1)) c.2.1 c.2.2 0 0
        rw [Int32.or_zero, show c.2.2 + (0 : Int32) = c.2.2 by simp] at off
        obtain ⟨M, hM, b1, b2⟩ := meet_bits (law := law) (told := true) (q := q) (nH (V1 (t + 1))) 0 (V1 (t + 1)) 0 (by have := hR1.H8; omega) (by decide)
        have b1' : (fo (meetS true law q) (nH (V1 (t + 1))) 0 (V1 (t + 1), 0, 0)).2.1 = nI M := b1
        have b2' : (fo (meetS true law q) (nH (V1 (t + 1))) 0 (V1 (t + 1), 0, 0)).2.2 = nI (pc M) := b2
        rw [b1']
        refine s6_bits (by omega) (nm_e (nm_r (nI_1 q) (hk2 (V2, c.2.1 ||| nI M, c.2.2 + nI (pc M)) ⟨g1.trans j1, ?_, ?_, ?_⟩)))
        · show WkS m (V2 (t + 1))
          rw [j3]
          exact g2.trans (wk_fo (f := fun z : (Nat → Int32) × Int32 × Int32 => z.1) (N := 8) (fun i a hi => wk_meetS hi) _ _ _ (by have := hR1.H8; omega))
        · show V2 t 20 = b.1 t 20
          rw [j2, g4]
        · show fo (quartS true draws law) (8 - (q + 1)) (q + 1) (V2 (t + 1), _, _) = A
          rw [j3, ← i4, g5, off, b1', b2']
      refine br_f (nI_ge hq8 (by decide)) ⟨fun zd => ?_, fun zd => s6_draw ?_⟩
      · have hd : draws = false := Bool.eq_false_iff.mpr (b2i_0.mp zd)
        refine dry c.1 _ i1 i2 rfl i3 ?_
        unfold quartS
        rw [hd, if_neg (fun w => absurd w.1 (by decide)), if_neg (by decide)]
      · have hd : draws = true := Classical.byContradiction fun w => zd (b2i_f w)
        have e5 : vrow c.1 (t + 1) (upd (c.1 (t + 1)) 10 (drawN (c.1 (t + 1) 10))) (t + 1) 5 = c.1 (t + 1) 5 := by rw [vrow_s, upd_n (by decide)]
        rw [e5]
        refine ⟨fun z => ?_, fun z => ?_⟩
        · refine dry _ (upd (c.1 (t + 1)) 10 (drawN (c.1 (t + 1) 10))) i1.put (i2.trans (wk_upd (Or.inr (Or.inl rfl)))) (vrow_s _ _ _) (by rw [vrow_n _ _ (by omega)]; exact i3) ?_
          unfold quartS
          rw [hd, if_neg (fun w => absurd w.2 (Int32.not_lt.mpr z)), if_pos rfl]
          congr 1
        · refine nm_r (nI_1 q) (hk2 (vrow c.1 (t + 1) (upd (c.1 (t + 1)) 10 (drawN (c.1 (t + 1) 10))), c.2.1, c.2.2) ⟨i1.put, ?_, ?_, ?_⟩)
          · show WkS m (vrow c.1 (t + 1) _ (t + 1))
            rw [vrow_s]
            exact i2.trans (wk_upd (Or.inr (Or.inl rfl)))
          · show vrow c.1 (t + 1) _ t 20 = _
            rw [vrow_n _ _ (by omega)]
            exact i3
          · show fo (quartS true draws law) (8 - (q + 1)) (q + 1) (vrow c.1 (t + 1) _ (t + 1), c.2.1, c.2.2) = A
            rw [vrow_s, ← i4]
            congr 1
            unfold quartS
            rw [if_pos ⟨hd, Int32.not_le.mp z⟩]
  · show WkS m (vset V t 20 0 (t + 1))
    rw [vset_n _ _ _ (by omega), hm]
    exact WkS.refl
  · show fo (weekS true draws law) (N - 0) 0 (vset V t 20 0 (t + 1), 0, vset V t 20 0 t 20) = _
    rw [vset_n _ _ _ (by omega), vset_at, if_pos rfl, ← hm]
    rfl
end WG
