/-! ===== PURE: the component goes through weeks ===== -/
def CwF (x w : Nat) (V V' : Nat → Nat → Int32) : Prop := (∀ b, b ≠ x → b ≠ x + 111 → (b < w ∨ w + 36 ≤ b) → V' b = V b) ∧ ∀ j, j ≠ 6 → V' x j = V x j
theorem CwF.refl {x w : Nat} {V : Nat → Nat → Int32} : CwF x w V V := ⟨fun _ _ _ _ => rfl, fun _ _ => rfl⟩
theorem CwF.trans {x w : Nat} {V V1 V2 : Nat → Nat → Int32} (h : CwF x w V V1) (h2 : CwF x w V1 V2) : CwF x w V V2 := ⟨fun b h1 h3 h4 => (h2.1 b h1 h3 h4).trans (h.1 b h1 h3 h4), fun j hj => (h2.2 j hj).trans (h.2 j hj)⟩
theorem CwF.cf {x w : Nat} {V V1 : Nat → Nat → Int32} (h : CF x V V1) : CwF x w V V1 := ⟨fun b _ h2 _ => h b h2, fun j _ => by rw [h x (by omega)]⟩
theorem CwF.mem {x w : Nat} {V V1 : Nat → Nat → Int32} (h : ∀ b, (b < w ∨ w + 36 ≤ b) → V1 b = V b) (hx : x < w) : CwF x w V V1 := ⟨fun b _ _ h3 => h b h3, fun j _ => by rw [h x (Or.inl hx)]⟩
section CL
variable {sh : List jH} {V : Nat → Nat → Int32} {R : Nat → Nat → Option Nat} {x w : Nat} {m : Nat → Int32} {law : Option (List Ln)} {Q : Int32 → (Nat → Nat → Int32) → Prop} {P : (Nat → Nat → Int32) → Prop} {told draws : Bool}
theorem s1_meets {q : Nat} (hX : jReg shX1 sh x) (hW : WRel V w m) (hR : RowOk m) (hL : LawSh sh (R w 20) law) (hq8 : q < 8) (hd : w + 36 ≤ x + 111 ∨ x + 112 ≤ w) (hx : x < w) (hq : ∀ V', CwF x w V V' → WRel V' w (fo (meetS told law q) (nH m) 0 (m, V x 6, 0)).1 → V' w 21 = V w 21 → V' x 6 = (fo (meetS told law q) (nH m) 0 (m, V x 6, 0)).2.1 → Q (fo (meetS told law q) (nH m) 0 (m, V x 6, 0)).2.2 V') : wX1_meets x w sh R V (nI q) (b2i (told = true)) Q := by
  have hH := hR.H; have h8 := hR.H8; have g8 := hR.G8
  refine ⟨_, vloop (fun n (b : (Nat → Nat → Int32) × Int32) i => wX1_meets_6 x w sh R (nI q) (b2i (told = true)) Q n b.1 b.2 (nI i)) (fun i b => CwF x w V b.1 ∧ b.1 w 21 = V w 21 ∧ ∃ m1, WRel b.1 w m1 ∧ WkS m m1 ∧ fo (meetS told law q) (nH m - i) i (m1, b.1 x 6, b.2) = fo (meetS told law q) (nH m) 0 (m, V x 6, 0)) (nH m) ?_ ?_ (nH m) 0 (V, 0) (Nat.zero_add _) ⟨CwF.refl, rfl, m, hW, WkS.refl, rfl⟩⟩
  · intro n b hI
    obtain ⟨f1, f2, m1, f3, f4, f5⟩ := hI
    show wX1_meets_6 x w sh R (nI q) (b2i (told = true)) Q (n + 1) b.1 b.2 (nI (nH m))
    rw [fo_end] at f5
    rw [wX1_meets_6, f3.hosts, f4.1 3 (by omega)]
    have h9 := hq b.1 f1
    rw [← f5] at h9
    exact br_t (by rw [hH]; exact Int32.le_refl _) (h9 f3 f2 rfl)
  · intro n b h hh hI hk
    obtain ⟨f1, f2, m1, f3, f4, f5⟩ := hI
    rw [fo_pop hh] at f5
    show wX1_meets_6 x w sh R (nI q) (b2i (told = true)) Q (n + 1) b.1 b.2 (nI h)
    rw [wX1_meets_6, f3.hosts, f4.1 3 (by omega)]
    have hR1 := f4.row hR
    have hh1 : h < nH m1 := by rw [f4.1.nH]; exact hh
    have h81 := hR1.H8; have g81 := hR1.G8
    refine br_f (by rw [hH]; exact nI_ge hh (by omega)) (s1_wouldMeet hX f3 hR1 hL hh1 hq8 hd (fun V2 c2 => p_bn ?_))
    have W2 := CF.W c2 f3 hd h81 g81
    have x2 : ∀ j, V2 x j = b.1 x j := fun j => by rw [c2 x (by omega)]
    have w2 : V2 w 21 = V w 21 := by rw [c2 w (by omega)]; exact f2
    split
    · next wd =>
      have hg := would_g hR1 (by omega) hq8 wd
      have hg8 : gOf m1 h q < 8 := by omega
      refine ⟨in8 (by omega), in8 hq8, ?_⟩
      rw [cl8 (show h < 8 by omega), cl8 hq8, W2.book hh1 hq8, hg.2]
      refine nm_e (s1_joyBy hX W2 hR1 hL hh1 hg.1 hq8 hd (fun V3 c3 => ⟨in8 (by omega), ?_⟩))
      have W3 := CF.W c3 W2 hd h81 g81
      have e3 : V3 (w + 3) h = m1 (13 + 4 * h) := (W3.2.1 h hh1).2.2.1
      rw [e3, lim_lt]
      refine nm_e ⟨in8 (by omega), ?_⟩
      have W4 : WRel (vset V3 (w + 3) h (lim 999 (m1 (13 + 4 * h) + f_joy m1 law h (gOf m1 h q) q))) w (upd m1 (13 + 4 * h) (lim 999 (m1 (13 + 4 * h) + f_joy m1 law h (gOf m1 h q) q))) := W3.put ⟨by omega, by omega⟩ (fun b j k z => by
        rcases WM_cases z h81 g81 with z | z | z | z | z <;> omega)
      have n5 : nH (upd m1 (13 + 4 * h) (lim 999 (m1 (13 + 4 * h) + f_joy m1 law h (gOf m1 h q) q))) = nH m1 := nH_e (upd_n (by omega))
      have n6 : nG (upd m1 (13 + 4 * h) (lim 999 (m1 (13 + 4 * h) + f_joy m1 law h (gOf m1 h q) q))) = nG m1 := nG_e (upd_n (by omega))
      have F4 : CwF x w V (vset V3 (w + 3) h (lim 999 (m1 (13 + 4 * h) + f_joy m1 law h (gOf m1 h q) q))) := ((f1.trans (CwF.cf c2)).trans (CwF.cf c3)).trans (CwF.mem (fun b hb => vset_n _ _ _ (by omega)) hx)
      have x4 : ∀ j, vset V3 (w + 3) h (lim 999 (m1 (13 + 4 * h) + f_joy m1 law h (gOf m1 h q) q)) x j = b.1 x j := fun j => by rw [vset_n _ _ _ (by omega), c3 x (by omega), x2]
      have w4 : vset V3 (w + 3) h (lim 999 (m1 (13 + 4 * h) + f_joy m1 law h (gOf m1 h q) q)) w 21 = V w 21 := by rw [vset_n _ _ _ (by omega), c3 w (by omega), w2]
      have fin : ∀ V5, CwF x w V V5 → (∀ j, V5 x j = b.1 x j) → V5 w 21 = V w 21 → WRel V5 w (metR told m1 law h q) → wX1_meets_91 x w sh R (nI q) (b2i (told = true)) Q (fun V x4 x5 => wX1_meets_6 x w sh R (nI q) (b2i (told = true)) Q n V x4 x5) V5 b.2 (nI h) := by
        intro V5 g1 g2 g3 g4
        unfold wX1_meets_91
        rw [g2]
        refine nm_e (nm_e (nm_r (nI_1 h) (hk (vset V5 x 6 (b.1 x 6 ||| ((1 : Int32) <<< (nI h &&& 31))), b.2 + 1) ⟨?_, ?_, metR told m1 law h q, ?_, f4.trans (wk_met (by omega)), ?_⟩)))
        · exact ⟨fun b0 h1 h2 h3 => by show vset V5 x 6 _ b0 = V b0; rw [vset_n _ _ _ h1]; exact g1.1 b0 h1 h2 h3, fun j hj => by show vset V5 x 6 _ x j = V x j; rw [vset_at, if_neg hj]; exact g1.2 j hj⟩
        · show vset V5 x 6 _ w 21 = _
          rw [vset_n _ _ _ (by omega)]
          exact g3
        · exact g4.frame (fun a a1 a2 => vset_n _ _ _ (by omega)) (by have := (f4.trans (wk_met (told := told) (law := law) (h := h) (q := q) (by omega))).row hR; exact this.H8) (by have := (f4.trans (wk_met (told := told) (law := law) (h := h) (q := q) (by omega))).row hR; exact this.G8)
        · show fo (meetS told law q) (nH m - (h + 1)) (h + 1) (metR told m1 law h q, vset V5 x 6 _ x 6, b.2 + 1) = _
          rw [vset_at, if_pos rfl, ← f5]
          congr 1
          unfold meetS
          rw [if_pos wd]
      refine ⟨fun zt => ?_, fun zt => ?_⟩
      · have ht : told = false := Bool.eq_false_iff.mpr (b2i_0.mp zt)
        refine fin _ F4 x4 w4 ?_
        unfold metR logB
        rw [if_neg (by rw [ht]; decide)]
        exact W4
      · have ht : told = true := Classical.byContradiction fun y => zt (b2i_f y)
        refine s2_tells W4 (by rw [n5]; exact h81) (by rw [n6]; exact g81) (fun V5 g1 g2 g3 => fin V5 (F4.trans (CwF.mem (fun b hb => g1 b (by omega) (by omega)) hx)) (fun j => by rw [g1 x (by omega) (by omega), x4]) (by rw [g2, w4]) ?_)
        unfold metR logB
        rw [if_pos ht, hg.2]
        exact g3
    · next wd =>
      refine nm_r (nI_1 h) (hk (V2, b.2) ⟨f1.trans (CwF.cf c2), w2, m1, W2, f4, ?_⟩)
      show fo (meetS told law q) (nH m - (h + 1)) (h + 1) (m1, V2 x 6, b.2) = _
      rw [x2, ← f5]
      congr 1
      unfold meetS
      rw [if_neg wd]
theorem s2_draw {Q : Int32 → (Nat → Nat → Int32) → Prop} (hW : WRel V w m) (h8 : nH m ≤ 8) (g8 : nG m ≤ 8) (hq : WRel (vset V w 8 (drawN (m 10))) w (upd m 10 (drawN (m 10))) → Q (drawV (m 10)) (vset V w 8 (drawN (m 10)))) : wX2_draw w V 100 Q := by
  have e8 : V w 8 = m 10 := hW.1.2.2.2.2.2.2.2.2
  unfold wX2_draw
  rw [e8]
  refine nm_e ⟨by decide, ?_⟩
  have e : vset V w 8 ((1103515245 : Int32) * m 10 + 12345) w 8 = drawN (m 10) := by rw [vset_at, if_pos rfl]; rfl
  rw [e]
  exact hq (hW.put (b0 := 0) ⟨by decide, by decide⟩ (fun b j k z => by
    rcases WM_cases z h8 g8 with z | z | z | z | z <;> omega))
theorem s1_aWeek (hX : jReg shX1 sh x) (hW : WRel V w m) (hR : RowOk m) (hL : LawSh sh (R w 20) law) (hd : w + 36 ≤ x + 111 ∨ x + 112 ≤ w) (hx : x < w) (hq : ∀ V', CwF x w V V' → WRel V' w (weekS told draws law 0 (m, 0, V w 21)).1 → V' w 21 = (weekS told draws law 0 (m, 0, V w 21)).2.2 → Q (weekS told draws law 0 (m, 0, V w 21)).2.1 V') : wX1_aWeek x w sh R V (b2i (draws = true)) (b2i (told = true)) Q := by
  have hH := hR.H; have h8 := hR.H8; have g8 := hR.G8
  obtain ⟨A, hA⟩ : ∃ A, A = fo (quartS told draws law) 8 0 (m, (0 : Int32), (0 : Int32)) := ⟨_, rfl⟩
  obtain ⟨B, hB⟩ : ∃ B, B = fo (closeS told A.2.1) (nH m) 0 (A.1, V w 21) := ⟨_, rfl⟩
  have hw : weekS told draws law 0 (m, 0, V w 21) = (upd B.1 6 (lim 9999 (B.1 6 + 1)), A.2.2, B.2) := by
    rw [hB, hA]
    rfl
  rw [hw] at hq
  have shut : ∀ V1, CwF x w V V1 → WRel V1 w A.1 → WkS m A.1 → V1 w 21 = V w 21 → V1 x 6 = A.2.1 → ∃ f9, wX1_aWeek_73 x w sh R (b2i (draws = true)) (b2i (told = true)) Q f9 V1 A.2.2 (0 : Int32) := by
    intro V1 g1 g2 g3 g4 g5
    refine ⟨_, vloop (fun n (c : (Nat → Nat → Int32) × Int32) h => wX1_aWeek_73 x w sh R (b2i (draws = true)) (b2i (told = true)) Q n c.1 A.2.2 (nI h)) (fun h c => CwF x w V c.1 ∧ c.1 x 6 = A.2.1 ∧ ∃ m1, WRel c.1 w m1 ∧ WkS m m1 ∧ fo (closeS told A.2.1) (nH m - h) h (m1, c.1 w 21) = B) (nH m) ?_ ?_ (nH m) 0 (V1, 0) (Nat.zero_add _) ⟨g1, g5, A.1, g2, g3, by show fo _ _ 0 (A.1, V1 w 21) = B; rw [g4, hB]; rfl⟩⟩
    · intro n c hI
      obtain ⟨i1, i2, m1, i3, i4, i5⟩ := hI
      show wX1_aWeek_73 x w sh R (b2i (draws = true)) (b2i (told = true)) Q (n + 1) c.1 A.2.2 (nI (nH m))
      rw [fo_end] at i5
      rw [wX1_aWeek_73, i3.hosts, i4.1 3 (by omega)]
      have hR1 := i4.row hR
      refine br_t (by rw [hH]; exact Int32.le_refl _) (nm_r lim_lt ?_)
      rw [i3.week]
      have W2 : WRel (vset c.1 w 6 (lim 9999 (m1 6 + 1))) w (upd m1 6 (lim 9999 (m1 6 + 1))) := i3.put (b0 := 0) ⟨by decide, by decide⟩ (fun b j k z => by
        rcases WM_cases z hR1.H8 hR1.G8 with z | z | z | z | z <;> omega)
      have h9 := hq (vset c.1 w 6 (lim 9999 (m1 6 + 1))) (i1.trans (CwF.mem (fun b hb => vset_n _ _ _ (by omega)) hx))
      rw [← i5] at h9
      exact h9 W2 (by rw [vset_at, if_neg (by decide)])
    · intro n c h hh hI hk
      obtain ⟨i1, i2, m1, i3, i4, i5⟩ := hI
      rw [fo_pop hh] at i5
      show wX1_aWeek_73 x w sh R (b2i (draws = true)) (b2i (told = true)) Q (n + 1) c.1 A.2.2 (nI h)
      rw [wX1_aWeek_73, i3.hosts, i4.1 3 (by omega), i2]
      have hR1 := i4.row hR
      have hh1 : h < nH m1 := by rw [i4.1.nH]; exact hh
      refine br_f (by rw [hH]; exact nI_ge hh (by omega)) (s1_has (s2_settles i3 hR1 hh1 (fun V2 j1 j2 j3 => nm_r (nI_1 h) (hk (V2, 0) ⟨i1.trans (CwF.mem j1 hx), by show V2 x 6 = _; rw [j1 x (Or.inl hx)]; exact i2, _, j2, i4.trans (wk_closeS (by omega)), ?_⟩))))
      show fo (closeS told A.2.1) (nH m - (h + 1)) (h + 1) (_, V2 w 21) = B
      rw [j3]
      exact i5
  refine ⟨_, vloop (fun n (c : (Nat → Nat → Int32) × Int32) q => wX1_aWeek_11 x w sh R (b2i (draws = true)) (b2i (told = true)) Q n c.1 c.2 (nI q)) (fun q c => CwF x w V c.1 ∧ c.1 w 21 = V w 21 ∧ ∃ m1, WRel c.1 w m1 ∧ WkS m m1 ∧ fo (quartS told draws law) (8 - q) q (m1, c.1 x 6, c.2) = A) 8 ?_ ?_ 8 0 (vset V x 6 0, 0) (Nat.zero_add _) ⟨⟨fun b h1 _ _ => vset_n _ _ _ h1, fun j hj => by show vset V x 6 0 x j = _; rw [vset_at, if_neg hj]⟩, by show vset V x 6 0 w 21 = _; rw [vset_n _ _ _ (by omega)], m, hW.frame (fun a a1 a2 => vset_n _ _ _ (by omega)) h8 g8, WkS.refl, by show fo _ _ 0 (m, vset V x 6 0 x 6, 0) = A; rw [vset_at, if_pos rfl, hA]⟩⟩
  · intro n c hI
    obtain ⟨i1, i2, m1, i3, i4, i5⟩ := hI
    show wX1_aWeek_11 x w sh R (b2i (draws = true)) (b2i (told = true)) Q (n + 1) c.1 c.2 (nI 8)
    rw [fo_end] at i5
    rw [wX1_aWeek_11]
    have h9 := shut c.1 i1 (by rw [← i5]; exact i3) (by rw [← i5]; exact i4) i2 (by rw [← i5])
    rw [← i5] at h9
    exact br_t (by decide) h9
  · intro n c q hq8 hI hk
    obtain ⟨i1, i2, m1, i3, i4, i5⟩ := hI
    rw [fo_pop hq8] at i5
    show wX1_aWeek_11 x w sh R (b2i (draws = true)) (b2i (told = true)) Q (n + 1) c.1 c.2 (nI q)
    rw [wX1_aWeek_11]
    have hR1 := i4.row hR
    have dry : ∀ V1 m2, CwF x w V V1 → WRel V1 w m2 → WkS m m2 → V1 w 21 = V w 21 → V1 x 6 = c.1 x 6 → quartS told draws law q (m1, c.1 x 6, c.2) = fo (meetS told law q) (nH m2) 0 (m2, c.1 x 6, c.2) → wX1_aWeek_39 x w sh R (b2i (draws = true)) (b2i (told = true)) Q (fun V x4 x5 => wX1_aWeek_11 x w sh R (b2i (draws = true)) (b2i (told = true)) Q n V x4 x5) V1 c.2 (nI q) := by
      intro V1 m2 g1 g2 g3 g4 g5 g6
      have hR2 := g3.row hR
      refine br_t rfl (s1_meets hX g2 hR2 hL hq8 hd hx (fun V2 j1 j2 j3 j4 => ?_))
      have off := meet_off (told := told) (law := law) (q := q) (nH m2) 0 m2 0 c.2 (c.1 x 6) 0
      rw [Int32.zero_or, show c.2 + (0 : Int32) = c.2 by simp] at off
      rw [g5] at j2 j4 ⊢
      refine nm_e (nm_r (nI_1 q) (hk (V2, _) ⟨g1.trans j1, j3.trans g4, _, j2, g3.trans (wk_fo (f := fun z : (Nat → Int32) × Int32 × Int32 => z.1) (N := 8) (fun i a hi => wk_meetS hi) _ _ _ (by have := hR2.H8; omega)), ?_⟩))
      show fo (quartS told draws law) (8 - (q + 1)) (q + 1) (_, V2 x 6, _) = A
      rw [j4, ← i5, g6, off, Int32.zero_or]
    refine br_f (nI_ge hq8 (by decide)) ⟨fun zd => ?_, fun zd => s2_draw i3 hR1.H8 hR1.G8 (fun W2 => ?_)⟩
    · have hd0 : draws = false := Bool.eq_false_iff.mpr (b2i_0.mp zd)
      refine dry c.1 m1 i1 i3 i4 i2 rfl ?_
      unfold quartS
      rw [hd0, if_neg (fun w => absurd w.1 (by decide)), if_neg (by decide)]
    · have hd1 : draws = true := Classical.byContradiction fun w => zd (b2i_f w)
      have e3 : vset c.1 w 8 (drawN (m1 10)) w 3 = m1 5 := by rw [vset_at, if_neg (by decide)]; exact i3.1.2.2.2.1
      have F2 : CwF x w V (vset c.1 w 8 (drawN (m1 10))) := i1.trans (CwF.mem (fun b hb => vset_n _ _ _ (by omega)) hx)
      have w2 : vset c.1 w 8 (drawN (m1 10)) w 21 = V w 21 := by rw [vset_at, if_neg (by decide)]; exact i2
      have x2 : vset c.1 w 8 (drawN (m1 10)) x 6 = c.1 x 6 := by rw [vset_n _ _ _ (by omega)]
      rw [e3]
      refine ⟨fun z => ?_, fun z => ?_⟩
      · refine dry _ (upd m1 10 (drawN (m1 10))) F2 W2 (i4.trans (wk_upd (Or.inr (Or.inl rfl)))) w2 x2 ?_
        unfold quartS
        rw [hd1, if_neg (fun w => absurd w.2 (Int32.not_lt.mpr z)), if_pos rfl]
        congr 1
      · refine br_f (by decide) (nm_r (show c.2 + (0 : Int32) = c.2 by simp) (nm_r (nI_1 q) (hk (vset c.1 w 8 (drawN (m1 10)), c.2) ⟨F2, w2, _, W2, i4.trans (wk_upd (Or.inr (Or.inl rfl))), ?_⟩)))
        show fo (quartS told draws law) (8 - (q + 1)) (q + 1) (_, vset c.1 w 8 (drawN (m1 10)) x 6, c.2) = A
        rw [x2, ← i5]
        congr 1
        unfold quartS
        rw [if_pos ⟨hd1, Int32.not_le.mp z⟩]
end CL
