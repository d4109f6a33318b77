/-! ===== PURE: both best ways of the twin (printed by tools/gen_gs4.py) ===== -/
section PG7
variable {t : Nat} {V : Nat → Nat → Int32} {Q0 : (Nat → Nat → Int32) → Prop} {Q2 : Int32 → (Nat → Nat → Int32) → Prop} {s : GS} {h : Int32}
theorem s6_pairsH (hR : RowOk (V (t + 1))) (hq : ∀ V', (∀ r, r ≠ t + 7 → r ≠ t + 8 → r ≠ t + 9 → V' r = V r) → (∀ k, k < 8 → V' (t + 7) k = (gsWay (f_hr (V (t + 1))) (f_gr (V (t + 1))) (nH (V (t + 1))) (nG (V (t + 1)))).1 k ∧ V' (t + 8) k = (gsWay (f_hr (V (t + 1))) (f_gr (V (t + 1))) (nH (V (t + 1))) (nG (V (t + 1)))).2.1 k) → Q0 V') : wX6_pairs t V 1 Q0 := by
  have h8 := hR.H8; have g8 := hR.G8; have hH := hR.H; have hG := hR.G
  generalize hm : V (t + 1) = m at *
  unfold wX6_pairs wX6_pairs_19
  rw [hm, hH, hG]
  refine pickH (pickH (nm_e ⟨8 + 1, ?_⟩))
  refine vloop (fun n V1 k => wX6_pairs_43 t 1 Q0 n V1 (nI (nH m)) (nI (nG m)) (nI k)) (fun i V1 => (∀ r, r ≠ t + 7 → r ≠ t + 8 → r ≠ t + 9 → V1 r = V r) ∧ ∀ k, k < i → V1 (t + 7) k = -1 ∧ V1 (t + 8) k = -1 ∧ V1 (t + 9) k = 0) 8 ?_ ?_ 8 0 V rfl ⟨fun _ _ _ _ => rfl, fun k hk => absurd hk (Nat.not_lt_zero _)⟩
  · rintro n V1 ⟨i1, i2⟩
    rw [wX6_pairs_43]
    refine br_t (Int32.le_refl _) ⟨64 + 2, ?_⟩
    have pass : ∀ n (V2 : Nat → Nat → Int32) (s : GS), (∀ r, r ≠ t + 7 → r ≠ t + 8 → r ≠ t + 9 → V2 r = V r) → TPRel V2 t 7 8 s → gsOk (nH m) (nG m) s → gsCon s → (∀ V3 s3, (∀ r, r ≠ t + 7 → r ≠ t + 8 → r ≠ t + 9 → V3 r = V r) → TPRel V3 t 7 8 s3 → gsOk (nH m) (nG m) s3 → gsCon s3 → s3 = gsPass (f_hr m) (f_gr m) (nH m) (nG m) s → (gsMu s + 1 ≤ gsMu s3 → wX6_pairs_83 t 1 Q0 n V3 (nI (nH m)) (nI (nG m)) 1) ∧ (s3 = s → wX6_pairs_83 t 1 Q0 n V3 (nI (nH m)) (nI (nG m)) 0)) → wX6_pairs_83 t 1 Q0 (n + 1) V2 (nI (nH m)) (nI (nG m)) 1 := by
      intro n V2 s j1 j2 j3 j4 hpost
      rw [wX6_pairs_83]
      refine br_f (by decide) ⟨nH m + 1, ?_⟩
      refine vloop (fun n2 (z : (Nat → Nat → Int32) × GS × Bool) a => wX6_pairs_94 t 1 Q0 (fun V x2 x3 x4 => wX6_pairs_83 t 1 Q0 n V x2 x3 x4) n2 z.1 (nI (nH m)) (nI (nG m)) (b2i (z.2.2 = true)) (nI a)) (fun a z => (∀ r, r ≠ t + 7 → r ≠ t + 8 → r ≠ t + 9 → z.1 r = V r) ∧ TPRel z.1 t 7 8 z.2.1 ∧ gsOk (nH m) (nG m) z.2.1 ∧ gsCon z.2.1 ∧ fo (gsAsk (f_hr m) (f_gr m) (nG m)) (nH m - a) a z.2.1 = gsPass (f_hr m) (f_gr m) (nH m) (nG m) s ∧ gsMu s ≤ gsMu z.2.1 ∧ (z.2.2 = true → gsMu s + 1 ≤ gsMu z.2.1) ∧ (z.2.2 = false → z.2.1 = s)) (nH m) ?_ ?_ (nH m) 0 (V2, s, false) (Nat.zero_add _) ⟨j1, j2, j3, j4, rfl, Nat.le_refl _, fun q => absurd (show false = true from q) (by decide), fun _ => rfl⟩
      · rintro n2 ⟨V3, s3, fl⟩ ⟨k1, k2, k3, k4, k5, k6, k7, k8⟩
        simp only at k1 k2 k3 k4 k5 k6 k7 k8
        show wX6_pairs_94 t 1 Q0 (fun V x2 x3 x4 => wX6_pairs_83 t 1 Q0 n V x2 x3 x4) (n2 + 1) V3 (nI (nH m)) (nI (nG m)) (b2i (fl = true)) (nI (nH m))
        rw [wX6_pairs_94]
        rw [Nat.sub_self] at k5
        have hp := hpost V3 s3 k1 k2 k3 k4 k5
        cases fl with
        | true => exact br_t (Int32.le_refl _) (hp.1 (k7 rfl))
        | false => exact br_t (Int32.le_refl _) (hp.2 (k8 rfl))
      · rintro n2 ⟨V3, s3, fl⟩ a ha ⟨k1, k2, k3, k4, k5, k6, k7, k8⟩ hk
        simp only at k1 k2 k3 k4 k5 k6 k7 k8
        show wX6_pairs_94 t 1 Q0 (fun V x2 x3 x4 => wX6_pairs_83 t 1 Q0 n V x2 x3 x4) (n2 + 1) V3 (nI (nH m)) (nI (nG m)) (b2i (fl = true)) (nI a)
        have e1 : V3 (t + 1) = m := (k1 (t + 1) (by omega) (by omega) (by omega)).trans hm
        rw [show nH m - a = (nH m - (a + 1)) + 1 by omega] at k5
        have k5' : fo (gsAsk (f_hr m) (f_gr m) (nG m)) (nH m - (a + 1)) (a + 1) (gsAsk (f_hr m) (f_gr m) (nG m) a s3) = gsPass (f_hr m) (f_gr m) (nH m) (nG m) s := k5
        obtain ⟨a1, a2⟩ := gsAsk_mu (r1 := f_hr m) (r2 := f_gr m) (A := nH m) (B := nG m) (by omega) (by omega) ha k3.1
        have ok2 := gsOk_ask (r1 := f_hr m) (r2 := f_gr m) (A := nH m) (B := nG m) (by omega) (by omega) ha k3
        obtain ⟨p1, p2, N, hN, eN, eN2⟩ := k2 a (by omega)
        have p1' : V3 (t + 7) a = s3.1 a := p1
        rw [wX6_pairs_94, cl8 (show a < 8 by omega), p1']
        refine br_f (nI_ge ha (by omega)) (pickH ⟨in8 (by omega), ?_⟩)
        have noask : gsAsk (f_hr m) (f_gr m) (nG m) a s3 = s3 → wX6_pairs_94 t 1 Q0 (fun V x2 x3 x4 => wX6_pairs_83 t 1 Q0 n V x2 x3 x4) n2 V3 (nI (nH m)) (nI (nG m)) (b2i (fl = true)) (nI (a + 1)) := by
          intro e
          rw [e] at k5'
          exact hk (V3, s3, fl) ⟨k1, k2, k3, k4, k5', k6, k7, k8⟩
        refine ⟨fun z => ⟨fun q => absurd rfl q, fun _ => nm_r (nI_1 a) (noask (if_neg z))⟩, fun z => ?_⟩
        have z' : s3.1 a = -1 := z
        rw [if_pos z'] at eN2
        have eN2' : s3.2.2 a = N := eN2
        refine s6_wantsH (by rw [e1]; exact hR) (by rw [e1]; exact ha) hN eN ?_ |> fun h => by rw [e1] at h; exact h
        rw [e1, ← eN2']
        refine ⟨fun z2 => ?_, fun z2 => nm_r (nI_1 a) (noask ((if_pos z').trans (if_pos z2)))⟩
        obtain ⟨b, hb, e, -⟩ := (gsBest_or (r1 := f_hr m) (B := nG m) (a := a) (N := s3.2.2 a)).resolve_left z2
        have may : f_may m a b := by
          obtain ⟨-, f, hf⟩ := gsBest_r1 (by omega) e (by omega)
          unfold f_hr at hf
          exact of_decide_eq_true ((Bool.and_eq_true _ _).mp hf).1
        have ask : gsAsks (f_hr m) (nG m) a s3 := ⟨z', z2⟩
        have mu := a2.resolve_right (fun q => q.1 ask)
        have eA : gsAsk (f_hr m) (f_gr m) (nG m) a s3 = if f_gr m b a (s3.2.1 b) = true then gsTake a b (gsNote a b s3) else gsNote a b s3 := by
          unfold gsAsk
          rw [if_pos z', if_neg z2, e, cl8 (show b < 8 by omega)]
        have con2 : gsCon (gsAsk (f_hr m) (f_gr m) (nG m) a s3) := by
          rw [eA]
          split
          · exact gsCon_take (s := gsNote a b s3) (by omega) (by omega) z' k4
          · exact k4
        rw [e]
        refine s6_askedH (by rw [e1]; exact hR) (by rw [e1]; exact ha) (by rw [e1]; exact hb) (by rw [e1]; exact may) k2 (by rw [e1]; exact k3) k4 z' (fun V5 f5 p5 => nm_r (nI_1 a) ?_)
        rw [e1, ← eA] at p5
        have e5 := mu.2
        refine hk (V5, gsAsk (f_hr m) (f_gr m) (nG m) a s3, true) ⟨fun r r1 r2 r3 => (f5 r r1 r2 r3).trans (k1 r r1 r2 r3), p5, ok2, con2, k5', ?_, fun _ => ?_, fun q => absurd (show true = false from q) (by decide)⟩
        · show gsMu s ≤ gsMu (gsAsk (f_hr m) (f_gr m) (nG m) a s3)
          have k6' : gsMu s ≤ gsMu s3 := k6
          omega
        · show gsMu s + 1 ≤ gsMu (gsAsk (f_hr m) (f_gr m) (nG m) a s3)
          have k6' : gsMu s ≤ gsMu s3 := k6
          omega
    have done : ∀ n k (V3 : Nat → Nat → Int32) (s : GS), (∀ r, r ≠ t + 7 → r ≠ t + 8 → r ≠ t + 9 → V3 r = V r) → TPRel V3 t 7 8 s → s = gsPass (f_hr m) (f_gr m) (nH m) (nG m) s → iter (gsPass (f_hr m) (f_gr m) (nH m) (nG m)) k s = gsWay (f_hr m) (f_gr m) (nH m) (nG m) → wX6_pairs_83 t 1 Q0 (n + 1) V3 (nI (nH m)) (nI (nG m)) 0 := by
      intro n k V3 s j1 j2 j3 j4
      rw [iter_fix j3.symm] at j4
      rw [wX6_pairs_83]
      refine br_t rfl (hq V3 j1 (fun k hk => ?_))
      rw [← j4]
      exact ⟨(j2 k hk).1, (j2 k hk).2.1⟩
    have run : ∀ d k (V2 : Nat → Nat → Int32) (s : GS), (∀ r, r ≠ t + 7 → r ≠ t + 8 → r ≠ t + 9 → V2 r = V r) → TPRel V2 t 7 8 s → gsOk (nH m) (nG m) s → gsCon s → 64 - gsMu s ≤ d → d ≤ k → iter (gsPass (f_hr m) (f_gr m) (nH m) (nG m)) k s = gsWay (f_hr m) (f_gr m) (nH m) (nG m) → wX6_pairs_83 t 1 Q0 (d + 2) V2 (nI (nH m)) (nI (nG m)) 1 := by
      intro d
      induction d with
      | zero =>
        intro k V2 s j1 j2 j3 j4 j5 j6 j7
        refine pass 1 V2 s j1 j2 j3 j4 (fun V3 s3 q1 q2 q3 q4 q5 => ⟨fun q => ?_, fun q => ?_⟩)
        · have := gsMu_le q3.1
          omega
        · rw [q] at q5 q2
          exact done 0 k V3 s q1 q2 q5 j7
      | succ d ih =>
        intro k V2 s j1 j2 j3 j4 j5 j6 j7
        refine pass (d + 2) V2 s j1 j2 j3 j4 (fun V3 s3 q1 q2 q3 q4 q5 => ⟨fun q => ?_, fun q => ?_⟩)
        · refine ih (k - 1) V3 s3 q1 q2 q3 q4 (by omega) (by omega) ?_
          rw [show k = (k - 1) + 1 by omega] at j7
          rw [q5]
          exact j7
        · rw [q] at q5 q2
          exact done (d + 1) k V3 s q1 q2 q5 j7
    exact run 64 64 V1 gs0 i1 (fun k hk => ⟨(i2 k hk).1, (i2 k hk).2.1, 0, by decide, (i2 k hk).2.2, rfl⟩) gs0_ok (fun b y hb hy e => absurd (show (-1 : Int32) = nI y from e).symm (nI_nm1 (by omega))) (by omega) (Nat.le_refl _) rfl
  · rintro n V1 k hk ⟨i1, i2⟩ hK
    rw [wX6_pairs_43, cl8 hk]
    refine br_f (nI_ge hk (by decide)) ⟨in8 hk, in8 hk, in8 hk, nm_r (nI_1 k) (hK _ ⟨fun r r1 r2 r3 => by rw [vset_n _ _ _ r3, vset_n _ _ _ r2, vset_n _ _ _ r1]; exact i1 r r1 r2 r3, fun j hj => ?_⟩)⟩
    rw [vset_s, vset_n _ _ _ (show t + 7 ≠ t + 9 by omega), vset_n _ _ _ (show t + 7 ≠ t + 8 by omega), vset_s, vset_n _ _ _ (show t + 8 ≠ t + 9 by omega), vset_s, vset_n _ _ _ (show t + 9 ≠ t + 8 by omega), vset_n _ _ _ (show t + 9 ≠ t + 7 by omega), vset_n _ _ _ (show t + 8 ≠ t + 7 by omega)]
    by_cases c : j = k
    · rw [c, pk_us, pk_us, pk_us]
      exact ⟨rfl, rfl, rfl⟩
    · rw [pk_un c, pk_un c, pk_un c]
      exact i2 j (by omega)
theorem s6_pairsG (hR : RowOk (V (t + 1))) (hq : ∀ V', (∀ r, r ≠ t + 7 → r ≠ t + 8 → r ≠ t + 9 → V' r = V r) → (∀ k, k < 8 → V' (t + 8) k = (gsWay (f_gr (V (t + 1))) (f_hr (V (t + 1))) (nG (V (t + 1))) (nH (V (t + 1)))).1 k ∧ V' (t + 7) k = (gsWay (f_gr (V (t + 1))) (f_hr (V (t + 1))) (nG (V (t + 1))) (nH (V (t + 1)))).2.1 k) → Q0 V') : wX6_pairs t V 0 Q0 := by
  have h8 := hR.H8; have g8 := hR.G8; have hH := hR.H; have hG := hR.G
  generalize hm : V (t + 1) = m at *
  unfold wX6_pairs wX6_pairs_19
  rw [hm, hH, hG]
  refine pickG (pickG (nm_e ⟨8 + 1, ?_⟩))
  refine vloop (fun n V1 k => wX6_pairs_43 t 0 Q0 n V1 (nI (nG m)) (nI (nH m)) (nI k)) (fun i V1 => (∀ r, r ≠ t + 7 → r ≠ t + 8 → r ≠ t + 9 → V1 r = V r) ∧ ∀ k, k < i → V1 (t + 7) k = -1 ∧ V1 (t + 8) k = -1 ∧ V1 (t + 9) k = 0) 8 ?_ ?_ 8 0 V rfl ⟨fun _ _ _ _ => rfl, fun k hk => absurd hk (Nat.not_lt_zero _)⟩
  · rintro n V1 ⟨i1, i2⟩
    rw [wX6_pairs_43]
    refine br_t (Int32.le_refl _) ⟨64 + 2, ?_⟩
    have pass : ∀ n (V2 : Nat → Nat → Int32) (s : GS), (∀ r, r ≠ t + 7 → r ≠ t + 8 → r ≠ t + 9 → V2 r = V r) → TPRel V2 t 8 7 s → gsOk (nG m) (nH m) s → gsCon s → (∀ V3 s3, (∀ r, r ≠ t + 7 → r ≠ t + 8 → r ≠ t + 9 → V3 r = V r) → TPRel V3 t 8 7 s3 → gsOk (nG m) (nH m) s3 → gsCon s3 → s3 = gsPass (f_gr m) (f_hr m) (nG m) (nH m) s → (gsMu s + 1 ≤ gsMu s3 → wX6_pairs_83 t 0 Q0 n V3 (nI (nG m)) (nI (nH m)) 1) ∧ (s3 = s → wX6_pairs_83 t 0 Q0 n V3 (nI (nG m)) (nI (nH m)) 0)) → wX6_pairs_83 t 0 Q0 (n + 1) V2 (nI (nG m)) (nI (nH m)) 1 := by
      intro n V2 s j1 j2 j3 j4 hpost
      rw [wX6_pairs_83]
      refine br_f (by decide) ⟨nG m + 1, ?_⟩
      refine vloop (fun n2 (z : (Nat → Nat → Int32) × GS × Bool) a => wX6_pairs_94 t 0 Q0 (fun V x2 x3 x4 => wX6_pairs_83 t 0 Q0 n V x2 x3 x4) n2 z.1 (nI (nG m)) (nI (nH m)) (b2i (z.2.2 = true)) (nI a)) (fun a z => (∀ r, r ≠ t + 7 → r ≠ t + 8 → r ≠ t + 9 → z.1 r = V r) ∧ TPRel z.1 t 8 7 z.2.1 ∧ gsOk (nG m) (nH m) z.2.1 ∧ gsCon z.2.1 ∧ fo (gsAsk (f_gr m) (f_hr m) (nH m)) (nG m - a) a z.2.1 = gsPass (f_gr m) (f_hr m) (nG m) (nH m) s ∧ gsMu s ≤ gsMu z.2.1 ∧ (z.2.2 = true → gsMu s + 1 ≤ gsMu z.2.1) ∧ (z.2.2 = false → z.2.1 = s)) (nG m) ?_ ?_ (nG m) 0 (V2, s, false) (Nat.zero_add _) ⟨j1, j2, j3, j4, rfl, Nat.le_refl _, fun q => absurd (show false = true from q) (by decide), fun _ => rfl⟩
      · rintro n2 ⟨V3, s3, fl⟩ ⟨k1, k2, k3, k4, k5, k6, k7, k8⟩
        simp only at k1 k2 k3 k4 k5 k6 k7 k8
        show wX6_pairs_94 t 0 Q0 (fun V x2 x3 x4 => wX6_pairs_83 t 0 Q0 n V x2 x3 x4) (n2 + 1) V3 (nI (nG m)) (nI (nH m)) (b2i (fl = true)) (nI (nG m))
        rw [wX6_pairs_94]
        rw [Nat.sub_self] at k5
        have hp := hpost V3 s3 k1 k2 k3 k4 k5
        cases fl with
        | true => exact br_t (Int32.le_refl _) (hp.1 (k7 rfl))
        | false => exact br_t (Int32.le_refl _) (hp.2 (k8 rfl))
      · rintro n2 ⟨V3, s3, fl⟩ a ha ⟨k1, k2, k3, k4, k5, k6, k7, k8⟩ hk
        simp only at k1 k2 k3 k4 k5 k6 k7 k8
        show wX6_pairs_94 t 0 Q0 (fun V x2 x3 x4 => wX6_pairs_83 t 0 Q0 n V x2 x3 x4) (n2 + 1) V3 (nI (nG m)) (nI (nH m)) (b2i (fl = true)) (nI a)
        have e1 : V3 (t + 1) = m := (k1 (t + 1) (by omega) (by omega) (by omega)).trans hm
        rw [show nG m - a = (nG m - (a + 1)) + 1 by omega] at k5
        have k5' : fo (gsAsk (f_gr m) (f_hr m) (nH m)) (nG m - (a + 1)) (a + 1) (gsAsk (f_gr m) (f_hr m) (nH m) a s3) = gsPass (f_gr m) (f_hr m) (nG m) (nH m) s := k5
        obtain ⟨a1, a2⟩ := gsAsk_mu (r1 := f_gr m) (r2 := f_hr m) (A := nG m) (B := nH m) (by omega) (by omega) ha k3.1
        have ok2 := gsOk_ask (r1 := f_gr m) (r2 := f_hr m) (A := nG m) (B := nH m) (by omega) (by omega) ha k3
        obtain ⟨p1, p2, N, hN, eN, eN2⟩ := k2 a (by omega)
        have p1' : V3 (t + 8) a = s3.1 a := p1
        rw [wX6_pairs_94, cl8 (show a < 8 by omega), p1']
        refine br_f (nI_ge ha (by omega)) (pickG ⟨in8 (by omega), ?_⟩)
        have noask : gsAsk (f_gr m) (f_hr m) (nH m) a s3 = s3 → wX6_pairs_94 t 0 Q0 (fun V x2 x3 x4 => wX6_pairs_83 t 0 Q0 n V x2 x3 x4) n2 V3 (nI (nG m)) (nI (nH m)) (b2i (fl = true)) (nI (a + 1)) := by
          intro e
          rw [e] at k5'
          exact hk (V3, s3, fl) ⟨k1, k2, k3, k4, k5', k6, k7, k8⟩
        refine ⟨fun z => ⟨fun q => absurd rfl q, fun _ => nm_r (nI_1 a) (noask (if_neg z))⟩, fun z => ?_⟩
        have z' : s3.1 a = -1 := z
        rw [if_pos z'] at eN2
        have eN2' : s3.2.2 a = N := eN2
        refine s6_wantsG (by rw [e1]; exact hR) (by rw [e1]; exact ha) hN eN ?_ |> fun h => by rw [e1] at h; exact h
        rw [e1, ← eN2']
        refine ⟨fun z2 => ?_, fun z2 => nm_r (nI_1 a) (noask ((if_pos z').trans (if_pos z2)))⟩
        obtain ⟨b, hb, e, -⟩ := (gsBest_or (r1 := f_gr m) (B := nH m) (a := a) (N := s3.2.2 a)).resolve_left z2
        have may : f_may m b a := by
          obtain ⟨-, f, hf⟩ := gsBest_r1 (by omega) e (by omega)
          unfold f_gr at hf
          exact of_decide_eq_true ((Bool.and_eq_true _ _).mp hf).1
        have ask : gsAsks (f_gr m) (nH m) a s3 := ⟨z', z2⟩
        have mu := a2.resolve_right (fun q => q.1 ask)
        have eA : gsAsk (f_gr m) (f_hr m) (nH m) a s3 = if f_hr m b a (s3.2.1 b) = true then gsTake a b (gsNote a b s3) else gsNote a b s3 := by
          unfold gsAsk
          rw [if_pos z', if_neg z2, e, cl8 (show b < 8 by omega)]
        have con2 : gsCon (gsAsk (f_gr m) (f_hr m) (nH m) a s3) := by
          rw [eA]
          split
          · exact gsCon_take (s := gsNote a b s3) (by omega) (by omega) z' k4
          · exact k4
        rw [e]
        refine s6_askedG (by rw [e1]; exact hR) (by rw [e1]; exact ha) (by rw [e1]; exact hb) (by rw [e1]; exact may) k2 (by rw [e1]; exact k3) k4 z' (fun V5 f5 p5 => nm_r (nI_1 a) ?_)
        rw [e1, ← eA] at p5
        have e5 := mu.2
        refine hk (V5, gsAsk (f_gr m) (f_hr m) (nH m) a s3, true) ⟨fun r r1 r2 r3 => (f5 r r1 r2 r3).trans (k1 r r1 r2 r3), p5, ok2, con2, k5', ?_, fun _ => ?_, fun q => absurd (show true = false from q) (by decide)⟩
        · show gsMu s ≤ gsMu (gsAsk (f_gr m) (f_hr m) (nH m) a s3)
          have k6' : gsMu s ≤ gsMu s3 := k6
          omega
        · show gsMu s + 1 ≤ gsMu (gsAsk (f_gr m) (f_hr m) (nH m) a s3)
          have k6' : gsMu s ≤ gsMu s3 := k6
          omega
    have done : ∀ n k (V3 : Nat → Nat → Int32) (s : GS), (∀ r, r ≠ t + 7 → r ≠ t + 8 → r ≠ t + 9 → V3 r = V r) → TPRel V3 t 8 7 s → s = gsPass (f_gr m) (f_hr m) (nG m) (nH m) s → iter (gsPass (f_gr m) (f_hr m) (nG m) (nH m)) k s = gsWay (f_gr m) (f_hr m) (nG m) (nH m) → wX6_pairs_83 t 0 Q0 (n + 1) V3 (nI (nG m)) (nI (nH m)) 0 := by
      intro n k V3 s j1 j2 j3 j4
      rw [iter_fix j3.symm] at j4
      rw [wX6_pairs_83]
      refine br_t rfl (hq V3 j1 (fun k hk => ?_))
      rw [← j4]
      exact ⟨(j2 k hk).1, (j2 k hk).2.1⟩
    have run : ∀ d k (V2 : Nat → Nat → Int32) (s : GS), (∀ r, r ≠ t + 7 → r ≠ t + 8 → r ≠ t + 9 → V2 r = V r) → TPRel V2 t 8 7 s → gsOk (nG m) (nH m) s → gsCon s → 64 - gsMu s ≤ d → d ≤ k → iter (gsPass (f_gr m) (f_hr m) (nG m) (nH m)) k s = gsWay (f_gr m) (f_hr m) (nG m) (nH m) → wX6_pairs_83 t 0 Q0 (d + 2) V2 (nI (nG m)) (nI (nH m)) 1 := by
      intro d
      induction d with
      | zero =>
        intro k V2 s j1 j2 j3 j4 j5 j6 j7
        refine pass 1 V2 s j1 j2 j3 j4 (fun V3 s3 q1 q2 q3 q4 q5 => ⟨fun q => ?_, fun q => ?_⟩)
        · have := gsMu_le q3.1
          omega
        · rw [q] at q5 q2
          exact done 0 k V3 s q1 q2 q5 j7
      | succ d ih =>
        intro k V2 s j1 j2 j3 j4 j5 j6 j7
        refine pass (d + 2) V2 s j1 j2 j3 j4 (fun V3 s3 q1 q2 q3 q4 q5 => ⟨fun q => ?_, fun q => ?_⟩)
        · refine ih (k - 1) V3 s3 q1 q2 q3 q4 (by omega) (by omega) ?_
          rw [show k = (k - 1) + 1 by omega] at j7
          rw [q5]
          exact j7
        · rw [q] at q5 q2
          exact done (d + 1) k V3 s q1 q2 q5 j7
    exact run 64 64 V1 gs0 i1 (fun k hk => ⟨(i2 k hk).2.1, (i2 k hk).1, 0, by decide, (i2 k hk).2.2, rfl⟩) gs0_ok (fun b y hb hy e => absurd (show (-1 : Int32) = nI y from e).symm (nI_nm1 (by omega))) (by omega) (Nat.le_refl _) rfl
  · rintro n V1 k hk ⟨i1, i2⟩ hK
    rw [wX6_pairs_43, cl8 hk]
    refine br_f (nI_ge hk (by decide)) ⟨in8 hk, in8 hk, in8 hk, nm_r (nI_1 k) (hK _ ⟨fun r r1 r2 r3 => by rw [vset_n _ _ _ r3, vset_n _ _ _ r2, vset_n _ _ _ r1]; exact i1 r r1 r2 r3, fun j hj => ?_⟩)⟩
    rw [vset_s, vset_n _ _ _ (show t + 7 ≠ t + 9 by omega), vset_n _ _ _ (show t + 7 ≠ t + 8 by omega), vset_s, vset_n _ _ _ (show t + 8 ≠ t + 9 by omega), vset_s, vset_n _ _ _ (show t + 9 ≠ t + 8 by omega), vset_n _ _ _ (show t + 9 ≠ t + 7 by omega), vset_n _ _ _ (show t + 8 ≠ t + 7 by omega)]
    by_cases c : j = k
    · rw [c, pk_us, pk_us, pk_us]
      exact ⟨rfl, rfl, rfl⟩
    · rw [pk_un c, pk_un c, pk_un c]
      exact i2 j (by omega)
end PG7
