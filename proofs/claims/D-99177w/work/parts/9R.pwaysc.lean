/-! ===== PURE: ways, in the component ===== -/
section WC
variable {V : Nat → Nat → Int32} {x : Nat} {m u v : Nat → Int32} {Q : (Nat → Nat → Int32) → Prop}
theorem gsOk_way {A B : Nat} {r1 r2 : Nat → Nat → Int32 → Bool} (hA : A ≤ 8) (hB : B ≤ 8) : gsOk A B (gsWay r1 r2 A B) := by
  have hi : ∀ k s, gsOk A B s → gsOk A B (iter (gsPass r1 r2 A B) k s) := by
    intro k
    induction k with
    | zero => intro s h; exact h
    | succ k ih => intro s h; exact ih _ (fo_inv (f := gsAsk r1 r2 B) (fun _ s => gsOk A B s) A 0 s h (fun j b _ hj hb => gsOk_ask hA hB (by omega) hb))
  exact hi 64 _ gs0_ok
/-- what looking for ways leaves as it was -/
def FW (x : Nat) (V V' : Nat → Nat → Int32) : Prop := (∀ b, b ≠ x + 149 → b ≠ x + 149 + 1 → b ≠ x + 149 + 2 → V' b = V b) ∧ ∀ j, j ≠ 5 → V' (x + 149) j = V (x + 149) j
theorem FW.refl : FW x V V := ⟨fun _ _ _ _ => rfl, fun _ _ => rfl⟩
theorem FW.trans {V1 V2 : Nat → Nat → Int32} (h : FW x V V1) (h2 : FW x V1 V2) : FW x V V2 := ⟨fun b b1 b2 b3 => (h2.1 b b1 b2 b3).trans (h.1 b b1 b2 b3), fun j hj => (h2.2 j hj).trans (h.2 j hj)⟩
def CW (V : Nat → Nat → Int32) (x : Nat) (u v : Nat → Int32) : Prop := ∀ k, k < 8 → V (x + 149 + 1) k = u k ∧ V (x + 149 + 2) k = v k
def BW (m : Nat → Int32) (V : Nat → Nat → Int32) (x : Nat) : Prop := ∀ k, k < 8 → V (x + 149 + 4) k = (wayH m).1 k ∧ V (x + 149 + 5) k = (wayG m).2.1 k
theorem BW.fw {V1 : Nat → Nat → Int32} (h : BW m V x) (f : FW x V V1) : BW m V1 x := fun k hk => by rw [f.1 _ (by omega) (by omega) (by omega), f.1 _ (by omega) (by omega) (by omega)]; exact h k hk
theorem s5_isBetween {h g : Nat} {Q : Int32 → Prop} (hW : WRel V (x + 1) m) (hR : RowOk m) (hh : h < nH m) (hg : g < nG m) (hB : BW m V x) (hs : hsP m h = true) (hq : Q (b2i (betP m h g = true))) : wX5_isBetween x V (nI h) (nI g) Q := by
  have h8 := hR.H8; have g8 := hR.G8
  have k1 := gsOk_way (r1 := f_hr m) (r2 := f_gr m) h8 g8
  have k2 := gsOk_way (r1 := f_gr m) (r2 := f_hr m) g8 h8
  have hb1 : (wayH m).1 h = -1 ∨ ∃ b, b < nG m ∧ (wayH m).1 h = nI b := (k1.2 h).1
  have hb2 : (wayG m).2.1 h = -1 ∨ ∃ b, b < nG m ∧ (wayG m).2.1 h = nI b := (k2.2 h).2
  have hb1 := hb1.resolve_left (fun z => by unfold hsP at hs; rw [decide_eq_true z] at hs; exact absurd hs (by decide))
  obtain ⟨b, hb, eb⟩ := hb1
  have e4 := (hB h (by omega)).1
  have e5 := (hB h (by omega)).2
  unfold wX5_isBetween wX5_isBetween_25
  rw [cl8 (show h < 8 by omega), e4, e5, eb]
  unfold betP at hq
  rw [eb, nI_clamp (show b < 2 ^ 31 by omega)] at hq
  have two : (nI g = nI b ∨ f_hr m h b (nI g) = true) → (vp_in (nI h) 8 ∧ ((nI g = (wayG m).2.1 h → Q (1 : Int32)) ∧ (¬ nI g = (wayG m).2.1 h → (vp_in (nI h) 8 ∧ wX5_hostRather x V (nI h) (nI g) ((wayG m).2.1 h) (fun r44 => ((r44 = 0 → Q (0 : Int32)) ∧ (¬ r44 = 0 → Q (1 : Int32)))))))) := fun z => by
    rw [decide_eq_true z, Bool.true_and] at hq
    refine ⟨in8 (by omega), fun y => ?_, fun y => ⟨in8 (by omega), s5_hostRather hW hR hh hg hb2 (p_bz ?_)⟩⟩
    · rw [decide_eq_true (Or.inl y), b2i_t rfl] at hq; exact hq
    · split
      · next w => rw [decide_eq_true (Or.inr w), b2i_t rfl] at hq; exact hq
      · next w => rw [decide_eq_false (fun q => q.elim y w), b2i_f (by decide)] at hq; exact hq
  refine ⟨in8 (by omega), fun y => two (Or.inl y), fun y => ⟨in8 (by omega), s5_hostRather hW hR hh hb (Or.inr ⟨g, hg, rfl⟩) (p_bz ?_)⟩⟩
  split
  · next w => exact two (Or.inr w)
  · next w => rw [decide_eq_false (fun q => q.elim y w), Bool.false_and, b2i_f (by decide)] at hq; exact hq
theorem upd_back {w : Nat → Int32} {k : Nat} {y z : Int32} (h : w k = z) : upd (upd w k y) k z = w := by
  funext j
  by_cases e : j = k
  · rw [e, upd_s, h]
  · rw [upd_n e, upd_n e]
theorem s5_looksOn (hR : RowOk m) : ∀ (k h : Nat) (V : Nat → Nat → Int32) (u v : Nat → Int32) (n : Nat) (Q : (Nat → Nat → Int32) → Prop), h + k = nH m → WRel V (x + 1) m → BW m V x → CW V x u v → Upto m h u v → V (x + 149) 5 = nI n → (∀ V', FW x V V' → CW V' x u v → V' (x + 149) 5 = nI (n + cnt m (fun h g => mayP m h g && betP m h g) k h u v) → Q V') → wX5_looksOn x (k + 1) V (nI h) Q := by
  have h8 := hR.H8; have g8 := hR.G8; have hH := hR.H; have hG := hR.G
  intro k
  induction k with
  | zero =>
    intro h V u v n Q hk hW hB hC hU h5 hq
    obtain rfl : h = nH m := hk
    rw [wX5_looksOn]
    unfold wX5_looksOn_B
    rw [hW.hosts, hH]
    refine ⟨fun z => absurd rfl z, fun _ => s5_rathers (u := u) (v := v) hW hR (fun h hh => ⟨(hC h (by omega)).1, ?_⟩) (fun g hg => ⟨(hC g (by omega)).2, ?_⟩) ?_⟩
    · rcases hU.2.1 h hh hh with q | ⟨_, g, q1, q2, _⟩
      · exact Or.inl q.2
      · exact Or.inr ⟨g, q1, q2⟩
    · exact (hU.2.2 g hg).imp id (fun ⟨a, _, h2, h3, _⟩ => ⟨a, h2, h3⟩)
    · rw [h5]
      have fin : ∀ d : Nat, d = cnt m (fun h g => mayP m h g && betP m h g) 0 (nH m) u v → wX5_looksOn_31 x (wX5_looksOn x 0) (nI (nH m)) Q V (nI n) (nI d) := fun d hd => by
        unfold wX5_looksOn_31
        rw [nI_add]
        refine nm_e (hq _ ⟨fun b b1 _ _ => vset_n _ _ _ b1, fun j hj => by rw [vset_at, if_neg hj]⟩ (fun k hk => ?_) ?_)
        · rw [vset_n _ _ _ (by omega), vset_n _ _ _ (by omega)]; exact hC k hk
        · rw [vset_at, if_pos rfl, hd]
      refine ⟨fun z => fin 0 ?_, fun z => fin 1 ?_⟩
      · show 0 = if f_rathers m u v = 0 then 1 else 0
        rw [if_neg z]
      · show 1 = if f_rathers m u v = 0 then 1 else 0
        rw [if_pos z]
  | succ k ih =>
    intro h V u v n Q hk hW hB hC hU h5 hq
    rw [wX5_looksOn]
    unfold wX5_looksOn_B
    rw [hW.hosts, hH, cl8 (show h < 8 by omega), (hB h (by omega)).1]
    rw [cnt] at hq
    refine ⟨fun _ => ⟨in8 (by omega), fun z => ?_, fun z => ?_⟩, fun z => absurd (nI_inj (by omega) (by omega) z) (by omega)⟩
    · have hs : hsP m h = true := by unfold hsP; rw [decide_eq_false z]; rfl
      rw [if_pos hs] at hq
      have hu0 : u h = -1 := hU.1 h (by omega) (Nat.le_refl _)
      obtain ⟨F, hF⟩ : ∃ F : Nat → Nat, F = fun g => if v g = -1 ∧ (mayP m h g && betP m h g) = true then cnt m (fun h g => mayP m h g && betP m h g) k (h + 1) (upd u h (nI g)) (upd v g (nI h)) else 0 := ⟨_, rfl⟩
      have hq : ∀ V', FW x V V' → CW V' x u v → V' (x + 149) 5 = nI (n + fo (fun g n => n + F g) (nG m) 0 0) → Q V' := by rw [hF]; exact hq
      refine ⟨_, vloop (fun f (c : Nat → Nat → Int32) g => wX5_looksOn_56 x (wX5_looksOn x (k + 1)) (nI h) Q f c (nI g)) (fun g c => FW x V c ∧ CW c x u v ∧ ∃ d, c (x + 149) 5 = nI (n + d) ∧ fo (fun g n => n + F g) (nG m - g) g d = fo (fun g n => n + F g) (nG m) 0 0) (nG m) ?_ ?_ (nG m) 0 V (Nat.zero_add _) ⟨FW.refl, hC, 0, h5, rfl⟩⟩
      · intro f c hI
        obtain ⟨i1, i2, d, i3, i4⟩ := hI
        rw [fo_end] at i4
        have Wc : WRel c (x + 1) m := hW.frame (fun b b1 b2 => i1.1 b (by omega) (by omega) (by omega)) h8 g8
        rw [wX5_looksOn_56, Wc.guests, hG]
        exact br_t (Int32.le_refl _) (hq c i1 i2 (by rw [← i4]; exact i3))
      · intro f c g hg hI hk2
        obtain ⟨i1, i2, d, i3, i4⟩ := hI
        rw [fo_pop hg] at i4
        have Wc : WRel c (x + 1) m := hW.frame (fun b b1 b2 => i1.1 b (by omega) (by omega) (by omega)) h8 g8
        have g88 : g < 8 := by omega
        have go : ∀ c', FW x V c' → CW c' x u v → c' (x + 149) 5 = nI (n + (d + F g)) → wX5_looksOn_56 x (wX5_looksOn x (k + 1)) (nI h) Q f c' (nI g + 1) := fun c' f1 f2 f3 => by
          rw [nI_1]; exact hk2 c' ⟨f1, f2, _, f3, i4⟩
        have stay : ¬ (v g = -1 ∧ (mayP m h g && betP m h g) = true) → ∀ y142 : Int32, y142 = nI g + (1 : Int32) → wX5_looksOn_56 x (wX5_looksOn x (k + 1)) (nI h) Q f c y142 := fun z y hy => by
          rw [hy]
          refine go c i1 i2 ?_
          have : F g = 0 := by rw [hF]; exact if_neg z
          rw [this, Nat.add_zero]; exact i3
        rw [wX5_looksOn_56, Wc.guests, hG, cl8 g88, cl8 (show h < 8 by omega), (i2 g g88).2]
        refine br_f (nI_ge hg (by omega)) ⟨in8 g88, fun z => stay (fun q => z q.1), fun zv => s2_both Wc h8 g8 (by omega) hg (p_bz ?_)⟩
        split
        · next zm =>
          refine s5_isBetween Wc hR (by omega) hg (hB.fw i1) hs (p_bn ?_)
          split
          · next zb =>
            refine ⟨in8 (by omega), in8 g88, ?_⟩
            have fa : FW x c (vset (vset c (x + 149 + 1) h (nI g)) (x + 149 + 2) g (nI h)) := ⟨fun b b1 b2 b3 => by rw [vset_n _ _ _ b3, vset_n _ _ _ b2], fun j _ => by rw [vset_n _ _ _ (by omega), vset_n _ _ _ (by omega)]⟩
            have hF1 : F g = cnt m (fun h g => mayP m h g && betP m h g) k (h + 1) (upd u h (nI g)) (upd v g (nI h)) := by
              rw [hF]; exact if_pos ⟨zv, by rw [show mayP m h g = true from decide_eq_true zm, zb]; rfl⟩
            rw [nI_1]
            refine ih (h + 1) _ (upd u h (nI g)) (upd v g (nI h)) (n + d) _ (by omega) (Wc.frame (fun b b1 b2 => fa.1 b (by omega) (by omega) (by omega)) h8 g8) ((hB.fw i1).fw fa) (fun j hj => ?_) (hU.put h8 g8 (by omega) hg hs zv zm) ?_ (fun V2 f2 c2 e2 => ?_)
            · constructor
              · rw [vset_n _ _ _ (by omega), vset_s, ← (funext fun j => rfl : (fun j => c (x + 149 + 1) j) = c (x + 149 + 1))]
                by_cases e : j = h
                · rw [e, upd_s, upd_s]
                · rw [upd_n e, upd_n e]; exact (i2 j hj).1
              · rw [vset_s, vset_n _ _ _ (by omega)]
                by_cases e : j = g
                · rw [e, upd_s, upd_s]
                · rw [upd_n e, upd_n e]; exact (i2 j hj).2
            · rw [vset_n _ _ _ (by omega), vset_n _ _ _ (by omega)]; exact i3
            · refine ⟨in8 (by omega), in8 g88, fun y hy => ?_⟩
              rw [hy]
              refine go _ ((i1.trans fa).trans (f2.trans ⟨fun b b1 b2 b3 => by rw [vset_n _ _ _ b3, vset_n _ _ _ b2], fun j _ => by rw [vset_n _ _ _ (by omega), vset_n _ _ _ (by omega)]⟩)) (fun j hj => ?_) ?_
              · constructor
                · rw [vset_n _ _ _ (by omega), vset_at]
                  split
                  · next e => rw [e, hu0]
                  · next e => rw [(c2 j hj).1, upd_n e]
                · rw [vset_at, vset_n _ _ _ (by omega)]
                  split
                  · next e => rw [e, zv]
                  · next e => rw [(c2 j hj).2, upd_n e]
              · rw [vset_n _ _ _ (by omega), vset_n _ _ _ (by omega), e2, hF1, Nat.add_assoc]
          · next zb => exact stay (fun q => zb (by have := q.2; rw [Bool.and_eq_true] at this; exact this.2))
        · next zm => exact stay (fun q => zm (of_decide_eq_true (by have := q.2; rw [Bool.and_eq_true] at this; exact this.1)))
    · have hs : ¬ hsP m h = true := by unfold hsP; rw [decide_eq_true z]; decide
      rw [if_neg hs] at hq
      rw [nI_1]
      exact ih (h + 1) V u v n _ (by omega) hW hB hC (hU.none h8 (by omega) hs) h5 hq
theorem s1_ways {Q : Int32 → (Nat → Nat → Int32) → Prop} (hW : WRel V (x + 1) m) (hR : RowOk m) (hq : ∀ V', (∀ b, (b < x + 149 ∨ x + 155 ≤ b) → V' b = V b) → Q (nI (f_ways m)) V') : wX1_ways x V Q := by
  have h8 := hR.H8; have g8 := hR.G8
  unfold wX1_ways wX5_allWays
  refine s5_byHosts hW hR (fun V1 f1 p1 => ?_)
  have W1 : WRel (vcpy V1 (x + 149 + 1) (x + 149 + 4) 0 0 8) (x + 1) m := hW.frame (fun b b1 b2 => by rw [vcpy_n _ _ _ _ (by omega)]; exact f1 b (by omega) (by omega) (by omega)) h8 g8
  refine s5_byGuests W1 hR (fun V2 f2 p2 => ?_)
  refine s5_clears (fun V3 f3 c3 => ?_)
  refine ⟨nH m + 1, by omega, ?_⟩
  have far : ∀ b, (b < x + 149 ∨ x + 155 ≤ b) → V3 b = V b := fun b hb => by
    rw [f3 b (by omega) (by omega), vcpy_n _ _ _ _ (by omega), f2 b (by omega) (by omega) (by omega), vcpy_n _ _ _ _ (by omega), f1 b (by omega) (by omega) (by omega)]
  refine s5_looksOn hR (nH m) 0 _ (fun _ => -1) (fun _ => -1) 0 _ (by omega) (hW.frame (fun b b1 b2 => by rw [vset_n _ _ _ (by omega)]; exact far b (by omega)) h8 g8) (fun k hk => ?_) (fun k hk => ?_) Upto_0 (by rw [vset_at, if_pos rfl]; rfl) (fun V4 f4 _ e4 => ?_)
  · constructor
    · rw [vset_n _ _ _ (by omega), f3 _ (by omega) (by omega), vcpy_n _ _ _ _ (by omega), f2 _ (by omega) (by omega) (by omega), vcpy_s]
      unfold va_cpy
      rw [if_pos ⟨Nat.zero_le _, by omega⟩]
      have : V1 (x + 149 + 1) k = (wayH m).1 k := (p1 k hk).1
      simpa using this
    · rw [vset_n _ _ _ (by omega), f3 _ (by omega) (by omega), vcpy_s]
      unfold va_cpy
      rw [if_pos ⟨Nat.zero_le _, by omega⟩]
      have : V2 (x + 149 + 1) k = (wayG m).2.1 k := (p2 k hk).2.1
      simpa using this
  · rw [vset_n _ _ _ (by omega), vset_n _ _ _ (by omega)]; exact c3 k hk
  · rw [e4, Nat.zero_add, ways_eq hR]
    exact hq V4 (fun b hb => by rw [f4.1 b (by omega) (by omega) (by omega), vset_n _ _ _ (by omega)]; exact far b hb)
end WC
