/-! ===== PURE: rows of guests: the twin's table ===== -/
def okS (m : Nat → Int32) (a : Int32) (S : Nat) : Prop := S < 2 ^ nG m ∧ subOf a S
/-- the twin's table in V r, so far as D1 (a quarter on) and D2 (a guest on) are done -/
def RInv (m : Nat → Int32) (h : Nat) (a : Int32) (V : Nat → Nat → Int32) (r : Nat) (D1 : Nat → Nat → Prop) (D2 : Nat → Nat → Nat → Prop) : Prop :=
  (∀ q S, q ≤ 8 → S < 256 → ¬ V r (256 * q + S) = 0 → okS m a S ∧ ov m h S ≤ q) ∧ ¬ V r 0 = 0 ∧
  (∀ p S, p < 8 → S < 256 → D1 p S → ¬ V r (256 * p + S) = 0 → ¬ V r (256 * (p + 1) + S) = 0) ∧
  (∀ p S g, p < 8 → S < 256 → g < nG m → D2 p S g → ¬ V r (256 * p + S) = 0 → ¬ inS S g → isOf a (nI g) → f_fits m h g p = true → ¬ V r (256 * (p + f_st m g) + (S ||| 2 ^ g)) = 0)
theorem ov_0 {m : Nat → Int32} {h : Nat} : ov m h 0 = 0 := by
  have := fo_min (step := fun g n => if inS 0 g ∧ ov m h (0 - 2 ^ g) < 1000000 then (if f_over m h g (ov m h (0 - 2 ^ g)) < n then f_over m h g (ov m h (0 - 2 ^ g)) else n) else n) (fun i n => by
    try simp only
    split
    · split <;> omega
    · exact Nat.le_refl _) (nG m) 0 0
  have e := ov_eq (m := m) (h := h) (S := 0)
  unfold f_overOf at e
  rw [if_pos rfl] at e
  omega
theorem ok_0 {m : Nat → Int32} {a : Int32} : okS m a 0 := ⟨Nat.pow_pos (by decide), (sub_bit (by decide)).mpr (fun g _ hs => by
  rw [inS, Nat.zero_div] at hs
  omega)⟩
theorem R_up {m : Nat → Int32} {h : Nat} {a : Int32} {V : Nat → Nat → Int32} {r : Nat} {D1 : Nat → Nat → Prop} {D2 : Nat → Nat → Nat → Prop} (hI : RInv m h a V r D1 D2) (d1 : ∀ p S, p < 8 → D1 p S) {S : Nat} (hS : S < 256) : ∀ k p, p + k ≤ 8 → ¬ V r (256 * p + S) = 0 → ¬ V r (256 * (p + k) + S) = 0 := by
  intro k
  induction k with
  | zero => intro p _ h; exact h
  | succ k ih =>
    intro p hp hv
    have := hI.2.2.1 p S (by omega) hS (d1 p S (by omega)) hv
    rw [show p + (k + 1) = p + 1 + k by omega]
    exact ih (p + 1) (by omega) this
theorem R_end {m : Nat → Int32} {h : Nat} {a : Int32} {V : Nat → Nat → Int32} {r : Nat} {D1 : Nat → Nat → Prop} {D2 : Nat → Nat → Nat → Prop} (g8 : nG m ≤ 8) (hI : RInv m h a V r D1 D2) (d1 : ∀ p S, p < 8 → D1 p S) (d2 : ∀ p S g, p < 8 → D2 p S g) : ∀ n S, S < n → S < 256 → ∀ p, p ≤ 8 → okS m a S → ov m h S ≤ p → ¬ V r (256 * p + S) = 0 := by
  intro n
  induction n with
  | zero => intro S hS; omega
  | succ n ih =>
    intro S hn hS p hp hok ho
    by_cases c : S = 0
    · subst c
      have := R_up hI d1 hS p 0 (by omega) hI.2.1
      rw [Nat.zero_add] at this
      exact this
    · obtain ⟨g, hg, hs, hv, e⟩ := ov_att c (m := m) (h := h) (by omega)
      have hl := (set_less ⟨S, hS⟩ ⟨g, by omega⟩ hs).2
      simp only at hl
      obtain ⟨b1, b2⟩ := (set_back ⟨S, hS⟩ ⟨g, by omega⟩).1 hs
      simp only at b1 b2
      obtain ⟨s1, s2⟩ := sub_less hS (by omega) hok.2 hs
      have ho2 : f_over m h g (ov m h (S - 2 ^ g)) < 1000000 := by omega
      obtain ⟨f, f1, f2, f3, f4⟩ := ovF_att _ _ ho2
      change f_over m h g (ov m h (S - 2 ^ g)) = f + f_st m g at f4
      have ol := ov_le (m := m) (h := h) (S := S - 2 ^ g)
      have t1 := ih (S - 2 ^ g) (by omega) (by omega) f (by omega) ⟨by have := hok.1; omega, s2⟩ f1
      have t2 := hI.2.2.2 f (S - 2 ^ g) g (by omega) (by omega) hg (d2 _ _ _ (by omega)) t1 b2 s1 f3
      rw [b1] at t2
      have := R_up hI d1 hS (p - (f + f_st m g)) (f + f_st m g) (by omega) t2
      rw [show f + f_st m g + (p - (f + f_st m g)) = p by omega] at this
      exact this
theorem R_set {m : Nat → Int32} {h : Nat} {a : Int32} {V : Nat → Nat → Int32} {r q' S' : Nat} {D1 : Nat → Nat → Prop} {D2 : Nat → Nat → Nat → Prop} (hI : RInv m h a V r D1 D2) (hq : q' ≤ 8) (hS' : S' < 256) (hok : okS m a S') (ho : ov m h S' ≤ q') (d1 : ∀ p S, D1 p S → p < q') (d2 : ∀ p S g, D2 p S g → p < q') : RInv m h a (vset V r (256 * q' + S') 1) r D1 D2 := by
  obtain ⟨i1, i2, i3, i4⟩ := hI
  have up : ∀ k, ¬ V r k = 0 → ¬ vset V r (256 * q' + S') 1 r k = 0 := by
    intro k hk
    rw [vset_s]
    by_cases c : k = 256 * q' + S'
    · rw [c, pk_us]; decide
    · rw [pk_un c]; exact hk
  have same : ∀ p S, p < q' → S < 256 → vset V r (256 * q' + S') 1 r (256 * p + S) = V r (256 * p + S) := by
    intro p S h1 h2
    rw [vset_s, pk_un (by omega)]
  refine ⟨fun q S h1 h2 h3 => ?_, up 0 i2, fun p S h1 h2 h3 h4 => ?_, fun p S g h1 h2 h3 h4 h5 => ?_⟩
  · by_cases c : 256 * q + S = 256 * q' + S'
    · have e1 : q = q' := by omega
      have e2 : S = S' := by omega
      rw [e1, e2]
      exact ⟨hok, ho⟩
    · rw [vset_s, pk_un c] at h3
      exact i1 q S h1 h2 h3
  · rw [same p S (d1 p S h3) h2] at h4
    exact up _ (i3 p S h1 h2 h3 h4)
  · rw [same p S (d2 p S g h4) h2] at h5
    exact fun h6 h7 h8 => up _ (i4 p S g h1 h2 h3 h4 h5 h6 h7 h8)
section PR4
variable {t : Nat} {V : Nat → Nat → Int32} {Q : Int32 → Prop} {Q0 : (Nat → Nat → Int32) → Prop} {Q2 : Int32 → (Nat → Nat → Int32) → Prop} {h : Nat} {a s : Int32}
theorem s6_rowsOf (hR : RowOk (V (t + 1))) (hh : h < 8) (hq : ∀ V', (∀ r, r ≠ t + 13 → V' r = V r) → (∀ S, S < 256 → (¬ V' (t + 13) (2048 + S) = 0 ↔ okS (V (t + 1)) a S ∧ ov (V (t + 1)) h S < 1000000)) → Q0 V') : wX6_rowsOf t V (nI h) a Q0 := by
  have h8 := hR.H8; have g8 := hR.G8; have hG := hR.G
  generalize hm : V (t + 1) = m at *
  have ns1 : vp_nar .boolean (1 : Int32) = 1 := rfl
  have ns0 : vp_nar .boolean (0 : Int32) = 0 := rfl
  refine ⟨2304 + 1, vloop (fun n V1 k => wX6_rowsOf_2 t (nI h) a Q0 n V1 (nI k)) (fun k V1 => (∀ r, r ≠ t + 13 → V1 r = V r) ∧ ∀ j, j < k → V1 (t + 13) j = if j = 0 then 1 else 0) 2304 ?_ ?_ 2304 0 V rfl ⟨fun _ _ => rfl, fun j hj => absurd hj (Nat.not_lt_zero _)⟩⟩
  · rintro n V1 ⟨i1, i2⟩
    rw [wX6_rowsOf_2]
    refine br_t (Int32.le_refl _) ⟨8 + 1, ?_⟩
    refine vloop (fun n V1 q => wX6_rowsOf_32 t (nI h) a Q0 n V1 (nI q)) (fun q V1 => (∀ r, r ≠ t + 13 → V1 r = V r) ∧ RInv m h a V1 (t + 13) (fun p _ => p < q) (fun p _ _ => p < q)) 8 ?_ ?_ 8 0 V1 rfl ⟨i1, fun q S h1 h2 h3 => ?_, ?_, fun p S h1 h2 h3 => absurd h3 (Nat.not_lt_zero _), fun p S g h1 h2 h3 h4 => absurd h4 (Nat.not_lt_zero _)⟩
    · rintro n V2 ⟨j1, j2⟩
      rw [wX6_rowsOf_32]
      refine br_t (Int32.le_refl _) (hq V2 j1 (fun S hS => ⟨fun z => ?_, fun z => ?_⟩))
      · have := j2.1 8 S (Nat.le_refl _) hS z
        exact ⟨this.1, by omega⟩
      · have ol := ov_le (m := m) (h := h) (S := S)
        exact R_end g8 j2 (fun p S h => h) (fun p S g h => h) 256 S hS hS 8 (Nat.le_refl _) z.1 (by omega)
    · rintro n V2 q hq8 ⟨j1, j2⟩ hk
      rw [wX6_rowsOf_32]
      refine br_f (nI_ge hq8 (by decide)) ⟨256 + 1, ?_⟩
      refine vloop (fun n2 V3 S => wX6_rowsOf_41 t (nI h) a Q0 (fun V x3 => wX6_rowsOf_32 t (nI h) a Q0 n V x3) n2 V3 (nI q) (nI S)) (fun S V3 => (∀ r, r ≠ t + 13 → V3 r = V r) ∧ RInv m h a V3 (t + 13) (fun p S' => p < q ∨ (p = q ∧ S' < S)) (fun p S' _ => p < q ∨ (p = q ∧ S' < S))) 256 ?_ ?_ 256 0 V2 rfl ⟨j1, j2.1, j2.2.1, fun p S h1 h2 h3 => j2.2.2.1 p S h1 h2 (by omega), fun p S g h1 h2 h3 h4 => j2.2.2.2 p S g h1 h2 h3 (by omega)⟩
      · rintro n2 V3 ⟨k1, k2⟩
        rw [wX6_rowsOf_41]
        exact br_t (Int32.le_refl _) (nm_r (nI_1 q) (hk V3 ⟨k1, k2.1, k2.2.1, fun p S h1 h2 h3 => k2.2.2.1 p S h1 h2 (by omega), fun p S g h1 h2 h3 h4 => k2.2.2.2 p S g h1 h2 h3 (by omega)⟩))
      · rintro n2 V3 S hS ⟨k1, k2⟩ hk2
        rw [wX6_rowsOf_41, nI_1, ix_256, ix_256, nI_clamp (show 256 * q + S < 2 ^ 31 by omega), nI_clamp (show 256 * (q + 1) + S < 2 ^ 31 by omega), ns1]
        refine br_f (nI_ge hS (by decide)) ⟨in_2304 (by omega) hS, fun z => ⟨in_2304 (by omega) hS, nG m + 1, ?_⟩, fun z => nm_r (nI_1 S) (hk2 V3 ⟨k1, k2.1, k2.2.1, fun p S' h1 h2 h3 h4 => ?_, fun p S' g h1 h2 h3 h4 h5 => ?_⟩)⟩
        · obtain ⟨ok, ho⟩ := k2.1 q S (by omega) hS z
          have r0 := R_set (q' := q + 1) (S' := S) k2 (by omega) hS ok (by omega) (fun p S' h => by omega) (fun p S' g h => by omega)
          have z0 : ¬ vset V3 (t + 13) (256 * (q + 1) + S) 1 (t + 13) (256 * q + S) = 0 := by
            rw [vset_s, pk_un (by omega)]; exact z
          have z1 : ¬ vset V3 (t + 13) (256 * (q + 1) + S) 1 (t + 13) (256 * (q + 1) + S) = 0 := by
            rw [vset_s, pk_us]; decide
          have f0 : ∀ r, r ≠ t + 13 → vset V3 (t + 13) (256 * (q + 1) + S) 1 r = V r := fun r hr => by rw [vset_n _ _ _ hr]; exact k1 r hr
          generalize vset V3 (t + 13) (256 * (q + 1) + S) 1 = V4 at *
          refine vloop (fun n3 V5 g => wX6_rowsOf_87 t (nI h) a Q0 (fun V x3 => wX6_rowsOf_32 t (nI h) a Q0 n V x3) (fun V x3 x4 => wX6_rowsOf_41 t (nI h) a Q0 (fun V x3 => wX6_rowsOf_32 t (nI h) a Q0 n V x3) n2 V x3 x4) n3 V5 (nI q) (nI S) (nI g)) (fun g V5 => (∀ r, r ≠ t + 13 → V5 r = V r) ∧ ¬ V5 (t + 13) (256 * q + S) = 0 ∧ RInv m h a V5 (t + 13) (fun p S' => p < q ∨ (p = q ∧ S' ≤ S)) (fun p S' g' => p < q ∨ (p = q ∧ (S' < S ∨ (S' = S ∧ g' < g))))) (nG m) ?_ ?_ (nG m) 0 V4 (Nat.zero_add _) ⟨f0, z0, r0.1, r0.2.1, fun p S' h1 h2 h3 h4 => ?_, fun p S' g h1 h2 h3 h4 => r0.2.2.2 p S' g h1 h2 h3 (by omega)⟩
          · rintro n3 V5 ⟨l1, -, l2⟩
            rw [wX6_rowsOf_87, l1 (t + 1) (by omega), hm, hG]
            exact br_t (Int32.le_refl _) (nm_r (nI_1 S) (hk2 V5 ⟨l1, l2.1, l2.2.1, fun p S' h1 h2 h3 => l2.2.2.1 p S' h1 h2 (by omega), fun p S' g h1 h2 h3 h4 => l2.2.2.2 p S' g h1 h2 h3 (by omega)⟩))
          · rintro n3 V5 g hg ⟨l1, l0, l2⟩ hk3
            have em : V5 (t + 1) = m := by rw [l1 (t + 1) (by omega), hm]
            obtain ⟨o1, o2, o3⟩ := set_or ⟨S, hS⟩ ⟨g, by omega⟩
            simp only at o1 o2 o3
            have s4 := stay_r (hm ▸ hR) hg
            have keep : (inS S g ∨ ¬ isOf a (nI g) ∨ ¬ f_fits m h g q = true) → wX6_rowsOf_87 t (nI h) a Q0 (fun V x3 => wX6_rowsOf_32 t (nI h) a Q0 n V x3) (fun V x3 x4 => wX6_rowsOf_41 t (nI h) a Q0 (fun V x3 => wX6_rowsOf_32 t (nI h) a Q0 n V x3) n2 V x3 x4) n3 V5 (nI q) (nI S) (nI (g + 1)) := by
              intro c
              refine hk3 V5 ⟨l1, l0, l2.1, l2.2.1, l2.2.2.1, fun p S' g' h1 h2 h3 h4 h5 h6 h7 h8 => ?_⟩
              by_cases e : p = q ∧ S' = S ∧ g' = g
              · obtain ⟨rfl, rfl, rfl⟩ := e
                rcases c with c | c | c
                · exact absurd c h6
                · exact absurd h7 c
                · exact absurd h8 c
              · exact l2.2.2.2 p S' g' h1 h2 h3 (by omega) h5 h6 h7 h8
            have cmp : isOf (nI S ^^^ (-1 : Int32)) (nI g) ↔ ¬ inS S g := by
              have : ∀ (S : Fin 256) (g : Fin 8), isOf (nI S.val ^^^ (-1 : Int32)) (nI g.val) ↔ ¬ inS S.val g.val := by decide +kernel
              exact this ⟨S, hS⟩ ⟨g, by omega⟩
            rw [wX6_rowsOf_87, em, hG]
            refine br_f (nI_ge hg (by omega)) (s6_isOf (p_bz ?_))
            split
            · next z5 =>
              obtain ⟨z6, z7⟩ := isOf_and.mp z5
              have z7 := cmp.mp z7
              refine s6_fitsFrom (by rw [em]; exact hm ▸ hR) hh (by rw [em]; exact hg) (by omega) (p_bz ?_)
              rw [em]
              split
              · next z8 =>
                have e8 := fits_8 z8
                refine s6_ofGuest (w := 0) (by omega) (by decide) ?_
                rw [em, show m (43 + 3 * g + 0) = nI (f_st m g) from s4.2.2, nI_add, o1, ix_256, nI_clamp (show 256 * (q + f_st m g) + (S ||| 2 ^ g) < 2 ^ 31 by omega), ns1]
                refine ⟨in_2304 e8 o2, nm_r (nI_1 g) (hk3 _ ?_)⟩
                have hb := ((set_back ⟨S, hS⟩ ⟨g, by omega⟩).2 z7)
                simp only at hb
                have hin : inS (S ||| 2 ^ g) g := (inS_or ⟨S, hS⟩ ⟨g, by omega⟩ ⟨g, by omega⟩).mpr (Or.inr rfl)
                have om := ov_min (m := m) (h := h) (S := S ||| 2 ^ g) hg hin (by rw [hb]; omega)
                rw [hb] at om
                have oF : f_over m h g (ov m h S) ≤ q + f_st m g := ovF_min z8 (8 - ov m h S) (ov m h S) ho (by omega)
                have ok2 : okS m a (S ||| 2 ^ g) := ⟨Nat.or_lt_two_pow ok.1 (Nat.pow_lt_pow_right (by decide) hg), sub_or hS (by omega) ok.2 z6⟩
                have r2 := R_set (q' := q + f_st m g) (S' := S ||| 2 ^ g) l2 e8 o2 ok2 (by omega) (fun p S' h => by omega) (fun p S' g' h => by omega)
                refine ⟨fun r hr => by rw [vset_n _ _ _ hr]; exact l1 r hr, ?_, r2.1, r2.2.1, r2.2.2.1, fun p S' g' h1 h2 h3 h4 h5 h6 h7 h8 => ?_⟩
                · rw [vset_s, pk_un (by omega)]; exact l0
                · by_cases e : p = q ∧ S' = S ∧ g' = g
                  · obtain ⟨rfl, rfl, rfl⟩ := e
                    rw [vset_s, pk_us]; decide
                  · exact r2.2.2.2 p S' g' h1 h2 h3 (by omega) h5 h6 h7 h8
              · next z8 => exact nm_r (nI_1 g) (keep (Or.inr (Or.inr z8)))
            · next z5 =>
              refine nm_r (nI_1 g) (keep ?_)
              by_cases c : inS S g
              · exact Or.inl c
              · exact Or.inr (Or.inl (fun z => z5 (isOf_and.mpr ⟨z, cmp.mpr c⟩)))
          · by_cases e : p = q ∧ S' = S
            · obtain ⟨rfl, rfl⟩ := e
              exact z1
            · exact r0.2.2.1 p S' h1 h2 (by omega) h4
        · by_cases e : p = q ∧ S' = S
          · obtain ⟨rfl, rfl⟩ := e
            exact absurd z h4
          · exact k2.2.2.1 p S' h1 h2 (by omega) h4
        · by_cases e : p = q ∧ S' = S
          · obtain ⟨rfl, rfl⟩ := e
            exact absurd z h5
          · exact k2.2.2.2 p S' g h1 h2 h3 (by omega) h5
    · rw [i2 _ (by omega)] at h3
      by_cases c : 256 * q + S = 0
      · rw [show S = 0 by omega]
        exact ⟨ok_0, by rw [ov_0]; omega⟩
      · rw [if_neg c] at h3
        exact absurd rfl h3
    · rw [i2 0 (by decide)]; decide
  · rintro n V1 k hk ⟨i1, i2⟩ hK
    have f23 : ∀ s : Int32, s = (if k = 0 then 1 else 0) → wX6_rowsOf_23 t (nI h) a Q0 (fun V x3 => wX6_rowsOf_2 t (nI h) a Q0 n V x3) V1 (nI k) (nI k) s := by
      intro s es
      refine ⟨vp_in_nI hk (by decide), nm_r (nI_1 k) ?_⟩
      rw [nI_clamp (by omega), show vp_nar .boolean s = s by rw [es]; split <;> rfl]
      refine hK _ ⟨fun r hr => by rw [vset_n _ _ _ hr]; exact i1 r hr, fun j hj => ?_⟩
      rw [vset_s]
      by_cases c : j = k
      · rw [c, pk_us, es]
      · rw [pk_un c]; exact i2 j (by omega)
    rw [wX6_rowsOf_2]
    refine br_f (nI_ge hk (by decide)) ⟨fun z => f23 0 (if_neg (fun q => z (by rw [q]; rfl))).symm, fun z => f23 1 (if_pos ((nI_eq (b := 0) (by omega) (by decide)).mp z)).symm⟩
end PR4
