/-! ===== PURE: ways, in the twin ===== -/
section WT
variable {V : Nat → Nat → Int32} {t : Nat} {m : Nat → Int32} {Q : Int32 → (Nat → Nat → Int32) → Prop}
def HMask (m : Nat → Int32) (M h : Nat) : Prop := M < 256 ∧ ∀ k, k < 8 → (M.testBit k = true ↔ k < h ∧ hsP m k = true)
/-- what all tries leave alike -/
def Wy (V : Nat → Nat → Int32) (t : Nat) (m : Nat → Int32) (c : Nat → Nat → Int32) : Prop := (∀ b, b ≠ t + 7 → b ≠ t + 8 → c b = V b) ∧ (∀ k, k < nH m → hsP m k = false → c (t + 7) k = -1) ∧ ∀ g, g < nG m → inP m 0 g = false → c (t + 8) g = -1
theorem s6_isWay18 {a1 a3 : Int32} {M : Nat} (hR : RowOk m) (hV : V (t + 1) = m) (hM : HMask m M (nH m)) (Q : Int32 → (Nat → Nat → Int32) → Prop) : ∀ (k h S c w : Nat) (u v : Nat → Int32) (d : Nat → Nat → Int32), h + k = nH m → c < 2 ^ 31 → Left m S v → pc S = w → w + nbH m h = nbH m (nH m) → Upto m h u v → Wy V t m d → (∀ j, j < nH m → j < h → d (t + 7) j = u j) → (∀ g, g < nG m → v g ≠ -1 → d (t + 8) g = v g) → (∀ V', Wy V t m V' → Q (nI (lf m k h S c w u v)) V') → ∃ f9, wX6_isWay_18 t a1 (nI M) a3 Q f9 d (nI c) (nI S) (nI w) 1 (nI h) := by
  have h8 := hR.H8; have g8 := hR.G8; have hH := hR.H
  intro k
  induction k with
  | zero =>
    intro h S c w u v d hk hc hL hw hn hU hW h7 h8' hq
    obtain rfl : h = nH m := hk
    have hw0 : w = 0 := by omega
    refine ⟨1, ?_⟩
    have ed : d (t + 1) = m := by rw [hW.1 _ (by omega) (by omega), hV]
    rw [wX6_isWay_18, ed, hH]
    refine br_t (Int32.le_refl _) ?_
    unfold wX6_isWay_113
    refine ⟨fun z => absurd z (by decide), fun _ => s6_rathers (u := u) (v := v) (by rw [ed]; exact hR) (fun h hh => ?_) (fun g hg => ?_) ?_⟩
    · rw [ed] at hh ⊢
      refine ⟨h7 h hh hh, ?_⟩
      rcases hU.2.1 h hh hh with q | ⟨_, g, q1, q2, _⟩
      · exact Or.inl q.2
      · exact Or.inr ⟨g, q1, q2⟩
    · rw [ed] at hg ⊢
      refine ⟨?_, (hU.2.2 g hg).imp id (fun ⟨a, _, h2, h3, _⟩ => ⟨a, h2, h3⟩)⟩
      by_cases z : v g = -1
      · rw [z]
        refine hW.2.2 g hg ?_
        cases y : inP m 0 g with
        | false => rfl
        | true =>
          have yt := (hL.2 g (by omega)).2 ⟨hg, y, z⟩
          have := (bit_sub ⟨S, hL.1⟩ ⟨g, by omega⟩ ⟨g, by omega⟩ yt).2.2
          simp only [] at this
          omega
      · exact h8' g hg z
    · rw [ed]
      have hq : ∀ V', Wy V t m V' → Q (nI (if f_rathers m u v = 0 then 1 else 0)) V' := hq
      refine ⟨fun z => ?_, fun z => ?_⟩
      · have := hq d hW
        rw [if_neg z] at this
        exact this
      · have := hq d hW
        rw [if_pos z] at this
        exact this
  | succ k ih =>
    intro h S c w u v d hk hc hL hw hn hU hW h7 h8' hq
    have ed : d (t + 1) = m := by rw [hW.1 _ (by omega) (by omega), hV]
    have hh : h < nH m := by omega
    rw [lf] at hq
    by_cases z : hsP m h = true
    · rw [if_pos z] at hq
      have nb1 : nbH m (h + 1) = nbH m h + 1 := by
        show nbH m h + (if hsP m h = true then 1 else 0) = _
        rw [if_pos z]
      have mono : ∀ j, nbH m (h + 1) ≤ nbH m (h + 1 + j) := by
        intro j
        induction j with
        | zero => exact Nat.le_refl _
        | succ j ihj => exact Nat.le_trans ihj (Nat.le_add_right _ _)
      have hm := mono k
      rw [show h + 1 + k = nH m by omega] at hm
      have hw1 : 0 < w := by omega
      have p8 := pc_256 ⟨S, hL.1⟩
      simp only [] at p8
      have hmod : c % w < pc S := by rw [hw]; exact Nat.mod_lt _ hw1
      obtain ⟨kt, k8⟩ := kth_in hL.1 hmod
      obtain ⟨g, hg⟩ : ∃ g, g = kthN S (c % w) := ⟨_, rfl⟩
      rw [← hg] at kt k8 hq
      have yl := (hL.2 g k8).1 kt
      obtain ⟨l1, l2⟩ := hL.sub k8 kt (show h < 2 ^ 31 by omega)
      have bS := (bit_nI ⟨S, hL.1⟩ ⟨g, k8⟩).2.2.1 kt
      simp only [] at bS
      have hu2 : mayP m h g = true → Upto m (h + 1) (upd u h (nI g)) (upd v g (nI h)) := fun p => hU.put h8 g8 hh yl.1 z yl.2.2 (of_decide_eq_true p)
      have hW2 : Wy V t m (vset (vset d (t + 7) h (nI g)) (t + 8) g (nI h)) := ⟨fun b b1 b2 => by rw [vset_n _ _ _ b2, vset_n _ _ _ b1]; exact hW.1 b b1 b2, fun j hj hf => by
        rw [vset_n _ _ _ (by omega), vset_at, if_neg (fun q => by rw [q, z] at hf; exact absurd hf (by decide))]; exact hW.2.1 j hj hf, fun j hj hf => by
        rw [vset_at, if_neg (fun q => by rw [q, yl.2.1] at hf; exact absurd hf (by decide)), vset_n _ _ _ (by omega)]; exact hW.2.2 j hj hf⟩
      have key : ∃ f9, wX6_isWay_18 t a1 (nI M) a3 Q f9 (vset (vset d (t + 7) h (nI g)) (t + 8) g (nI h)) (nI (c / w)) (nI (S - 2 ^ g)) (nI (w - 1)) (b2i (f_may m h g)) (nI (h + 1)) := by
        by_cases p : mayP m h g = true
        · rw [if_pos p] at hq
          rw [b2i_t (of_decide_eq_true p)]
          refine ih (h + 1) (S - 2 ^ g) (c / w) (w - 1) (upd u h (nI g)) (upd v g (nI h)) _ (by omega) (Nat.lt_of_le_of_lt (Nat.div_le_self c w) hc) l1 (by omega) (by omega) (hu2 p) hW2 (fun j hj hj2 => ?_) (fun j hj hj2 => ?_) hq
          · rw [vset_n _ _ _ (by omega), vset_at]
            by_cases e : j = h
            · rw [if_pos e, e, upd_s]
            · rw [if_neg e, upd_n e]; exact h7 j hj (by omega)
          · rw [vset_at]
            by_cases e : j = g
            · rw [if_pos e, e, upd_s]
            · rw [if_neg e, upd_n e, vset_n _ _ _ (by omega)]
              rw [upd_n e] at hj2
              exact h8' j hj hj2
        · rw [if_neg p] at hq
          rw [b2i_f (fun q => p (decide_eq_true q))]
          refine ⟨1, ?_⟩
          have h0 : wX6_isWay_113 t a1 (nI M) a3 Q (vset (vset d (t + 7) h (nI g)) (t + 8) g (nI h)) 0 := by
            unfold wX6_isWay_113
            exact ⟨fun _ => hq _ hW2, fun z => absurd rfl z⟩
          rw [wX6_isWay_18]
          exact ⟨fun _ => h0, fun _ => ⟨fun _ => h0, fun z => absurd rfl z⟩⟩
      obtain ⟨f9, hf9⟩ := key
      refine ⟨f9 + 1, ?_⟩
      rw [wX6_isWay_18, ed, hH]
      refine br_f (nI_ge hh (by omega)) ⟨fun z => absurd z (by decide), fun _ => s6_isOf (p_bn ?_)⟩
      rw [if_pos ((bit_nI ⟨M, hM.1⟩ ⟨h, by omega⟩).1.2 ((hM.2 h (by omega)).2 ⟨hh, z⟩))]
      refine ⟨nI_ne0 hw1 (by omega), ?_⟩
      rw [nI_modN hc (by omega), nI_divN hc (by omega)]
      refine s6_kth hL.1 hmod ⟨nI_ne0 hw1 (by omega), nm_e ?_⟩
      rw [← hg, bS, cl8 (show h < 8 by omega), cl8 k8]
      have ew : nI w + (-1 : Int32) = nI (w - 1) := by
        rw [← Int32.sub_eq_add_neg]
        exact nI_subN (b := 1) hw1
      refine nm_r ew (nm_e ⟨in8 (by omega), in8 k8, s6_mayMeet (by omega) k8 ?_⟩)
      rw [vset_n _ _ _ (by omega), vset_n _ _ _ (by omega), ed]
      exact nm_r (nI_1 h) hf9
    · rw [if_neg z] at hq
      have n0 : nbH m (h + 1) = nbH m h := by
        show nbH m h + (if hsP m h = true then 1 else 0) = _
        rw [if_neg z, Nat.add_zero]
      have zf : hsP m h = false := by simpa using z
      obtain ⟨f9, hf9⟩ := ih (h + 1) S c w u v d (by omega) hc hL hw (by omega) (hU.none h8 hh z) hW (fun j hj hj2 => by
        by_cases e : j = h
        · rw [e, hW.2.1 h hh zf, hU.1 h hh (Nat.le_refl _)]
        · exact h7 j hj (by omega)) h8' hq
      refine ⟨f9 + 1, ?_⟩
      rw [wX6_isWay_18, ed, hH]
      refine br_f (nI_ge hh (by omega)) ⟨fun z => absurd z (by decide), fun _ => s6_isOf (p_bn ?_)⟩
      rw [if_neg (fun q => z ((hM.2 h (by omega)).1 ((bit_nI ⟨M, hM.1⟩ ⟨h, by omega⟩).1.1 q)).2)]
      exact nm_r (nI_1 h) hf9
theorem fact_le : ∀ n : Fin 9, fact n.val ≤ 40320 := by decide +kernel
theorem s6_ways (hR : RowOk (V (t + 1))) (hq : ∀ V', (∀ b, b ≠ t + 7 → b ≠ t + 8 → b ≠ t + 9 → V' b = vset V t 0 0 b) → Q (nI (f_ways (V (t + 1)))) V') : wX6_ways t V Q := by
  unfold wX6_ways
  have e1 : vset V t 0 0 (t + 1) = V (t + 1) := vt1
  rw [← e1] at hR hq
  clear e1
  generalize vset V t 0 0 = V0 at *
  have h8 := hR.H8; have g8 := hR.G8; have hH := hR.H
  refine s6_pairsH hR (fun V1 f1 p1 => ?_)
  obtain ⟨m, hm⟩ : ∃ m, m = V0 (t + 1) := ⟨_, rfl⟩
  rw [← hm] at hR hq h8 g8 hH p1
  have e1 : V1 (t + 1) = m := by rw [f1 _ (by omega) (by omega) (by omega), hm]
  have p1 : ∀ k, k < 8 → V1 (t + 7) k = (wayH m).1 k ∧ V1 (t + 8) k = (wayH m).2.1 k := p1
  obtain ⟨w1, w2⟩ := way_pairs h8 g8 (pref_h hR) (pref_g hR) pref_sym
  have w1 : ∀ a, a < nH m → (wayH m).1 a = -1 ∨ ∃ b, b < nG m ∧ (wayH m).1 a = nI b ∧ (wayH m).2.1 b = nI a ∧ f_hr m a b (-1) = true := w1
  have w2 : ∀ b, b < nG m → (wayH m).2.1 b = -1 ∨ ∃ a, a < nH m ∧ (wayH m).2.1 b = nI a ∧ (wayH m).1 a = nI b := w2
  refine ⟨_, vloop (fun n (b : Nat × Nat) i => wX6_ways_19 t Q n V1 (nI b.1) (nI b.2) (nI (fact (nbH m i))) (nI i)) (fun i b => HMask m b.1 i ∧ b.2 < 256 ∧ (∀ g, g < 8 → (b.2.testBit g = true ↔ ∃ k, k < i ∧ (wayH m).1 k = nI g)) ∧ pc b.1 = nbH m i ∧ pc b.2 = nbH m i) (nH m) ?_ ?_ (nH m) 0 (0, 0) (Nat.zero_add _) ⟨⟨by decide, fun k hk => ?_⟩, by decide, fun g hg => ?_, by show pc 0 = 0; decide, by show pc 0 = 0; decide⟩⟩
  · intro n b hI
    obtain ⟨M, G⟩ := b
    obtain ⟨i1, i2, i3, i4, i5⟩ := hI
    have i1 : HMask m M (nH m) := i1
    have i2 : G < 256 := i2
    have i4 : pc M = nbH m (nH m) := i4
    have i5 : pc G = nbH m (nH m) := i5
    show wX6_ways_19 t Q (n + 1) V1 (nI M) (nI G) (nI (fact (nbH m (nH m)))) (nI (nH m))
    rw [wX6_ways_19, e1, hH]
    refine br_t (Int32.le_refl _) ?_
    have hL : Left m G (fun _ => -1) := ⟨i2, fun g hg => by
      rw [i3 g hg]
      constructor
      · rintro ⟨k, hk, e⟩
        obtain ⟨b, hb, eb, es, _⟩ := (w1 k hk).resolve_left (by rw [e]; exact nI_nm1 (by omega))
        have : b = g := nI_inj (by omega) (by omega) (eb.symm.trans e)
        subst this
        refine ⟨hb, ?_, rfl⟩
        unfold inP
        rw [es, decide_eq_false (nI_nm1 (by omega))]
        rfl
      · rintro ⟨q1, q2, _⟩
        unfold inP at q2
        rcases w2 g q1 with y | ⟨a, ha, y, y2⟩
        · rw [decide_eq_true y] at q2; exact absurd q2 (by decide)
        · exact ⟨a, ha, y2⟩⟩
    have hp := pc_256 ⟨M, i1.1⟩
    simp only [] at hp
    have hfa := fact_le ⟨nbH m (nH m), by omega⟩
    simp only [] at hfa
    have hsum := lf_sum hR (nH m) 0 G (nbH m (nH m)) (fun _ => -1) (fun _ => -1) (by omega) hL i5 (by show _ + 0 = _; omega)
    have hW0 : Wy V1 t m V1 := ⟨fun _ _ _ => rfl, fun k hk hf => ?_, fun g hg hf => ?_⟩
    · refine ⟨_, vloop (fun n (b : (Nat → Nat → Int32) × Nat) i => wX6_ways_82 t Q n b.1 (nI M) (nI G) (nI (fact (nbH m (nH m)))) (nI b.2) (nI i)) (fun i b => Wy V1 t m b.1 ∧ b.2 = sumN i (fun c => lf m (nH m) 0 G c (nbH m (nH m)) (fun _ => -1) (fun _ => -1))) (fact (nbH m (nH m))) ?_ ?_ (fact (nbH m (nH m))) 0 (V1, 0) (Nat.zero_add _) ⟨hW0, rfl⟩⟩
      · intro n b hI
        obtain ⟨j1, j2⟩ := hI
        show wX6_ways_82 t Q (n + 1) b.1 (nI M) (nI G) (nI (fact (nbH m (nH m)))) (nI b.2) (nI (fact (nbH m (nH m))))
        rw [wX6_ways_82, j2, hsum]
        refine br_t (Int32.le_refl _) (hq b.1 (fun a a1 a2 a3 => ?_))
        rw [j1.1 a a1 a2, f1 a a1 a2 a3]
      · intro n b i hi hI hk
        obtain ⟨c, d⟩ := b
        obtain ⟨j1, j2⟩ := hI
        have j1 : Wy V1 t m c := j1
        have j2 : d = _ := j2
        show wX6_ways_82 t Q (n + 1) c (nI M) (nI G) (nI (fact (nbH m (nH m)))) (nI d) (nI i)
        rw [wX6_ways_82]
        refine br_f (nI_ge hi (by omega)) ?_
        unfold wX6_isWay
        refine s6_bits (by have := i1.1; omega) ?_
        rw [i4]
        refine s6_isWay18 hR e1 i1 _ (nH m) 0 G i (nbH m (nH m)) (fun _ => -1) (fun _ => -1) c (by omega) (by omega) hL i5 (by show _ + 0 = _; omega) Upto_0 j1 (fun j _ hj => absurd hj (Nat.not_lt_zero _)) (fun g _ hg => absurd rfl hg) (fun V' hV' => ?_)
        have l01 : ∀ (k h S c w : Nat) (u v : Nat → Int32), lf m k h S c w u v = 0 ∨ lf m k h S c w u v = 1 := by
          intro k
          induction k with
          | zero => intro h S c w u v; rw [lf]; split; exact Or.inr rfl; exact Or.inl rfl
          | succ k ih =>
            intro h S c w u v
            rw [lf]
            split
            · split
              · exact ih _ _ _ _ _ _
              · exact Or.inl rfl
            · exact ih _ _ _ _ _ _
        have hs := sum_s (n := i) (f := fun c => lf m (nH m) 0 G c (nbH m (nH m)) (fun _ => -1) (fun _ => -1))
        have go : ∀ y107 : Int32, y107 = nI (d + lf m (nH m) 0 G i (nbH m (nH m)) (fun _ => -1) (fun _ => -1)) → wX6_ways_82 t Q n V' (nI M) (nI G) (nI (fact (nbH m (nH m)))) y107 (nI i + 1) := fun y hy => by
          rw [hy, nI_1]
          exact hk (V', _) ⟨hV', by show d + _ = _; rw [hs, j2]⟩
        rcases l01 (nH m) 0 G i (nbH m (nH m)) (fun _ => -1) (fun _ => -1) with e | e
        · rw [e] at go ⊢
          exact ⟨fun _ y hy y2 hy2 => by rw [hy2]; exact go y (by rw [hy, Int32.add_zero]; rfl), fun z => absurd rfl z⟩
        · rw [e] at go ⊢
          exact ⟨fun z => absurd z (by decide), fun _ y hy y2 hy2 => by rw [hy2]; exact go y (by rw [hy, nI_1])⟩
    · rw [(p1 k (by omega)).1]
      unfold hsP at hf
      simpa using hf
    · rw [(p1 g (by omega)).2]
      unfold inP at hf
      simpa using hf
  · intro n b i hi hI hk
    obtain ⟨M, G⟩ := b
    obtain ⟨i1, i2, i3, i4, i5⟩ := hI
    have i1 : HMask m M i := i1
    have i2 : G < 256 := i2
    have i4 : pc M = nbH m i := i4
    have i5 : pc G = nbH m i := i5
    have i3 : ∀ g, g < 8 → (G.testBit g = true ↔ ∃ k, k < i ∧ (wayH m).1 k = nI g) := i3
    show wX6_ways_19 t Q (n + 1) V1 (nI M) (nI G) (nI (fact (nbH m i))) (nI i)
    rw [wX6_ways_19, e1, hH, cl8 (show i < 8 by omega), (p1 i (by omega)).1]
    refine br_f (nI_ge hi (by omega)) ⟨in8 (by omega), fun z => ?_, fun z => ?_⟩
    · have hs : hsP m i = true := by unfold hsP; rw [decide_eq_false z]; rfl
      obtain ⟨g, hg, eg, es, _⟩ := (w1 i hi).resolve_left z
      have nb1 : nbH m (i + 1) = nbH m i + 1 := by
        show nbH m i + (if hsP m i = true then 1 else 0) = _
        rw [if_pos hs]
      have nM : ¬ inS M i := fun q => by
        have := ((i1.2 i (by omega)).1 (inS_bit.1 q)).1
        omega
      have nG' : ¬ inS G g := fun q => by
        obtain ⟨k, hk, ek⟩ := (i3 g (by omega)).1 (inS_bit.1 q)
        obtain ⟨b, hb, eb, es2, _⟩ := (w1 k (by omega)).resolve_left (by rw [ek]; exact nI_nm1 (by omega))
        have : b = g := nI_inj (by omega) (by omega) (eb.symm.trans ek)
        subst this
        have := nI_inj (by omega) (by omega) (es.symm.trans es2)
        omega
      have oM := pc_or ⟨M, i1.1⟩ ⟨i, by omega⟩ nM
      have oG := pc_or ⟨G, i2⟩ ⟨g, by omega⟩ nG'
      have bM := (bit_nI ⟨M, i1.1⟩ ⟨i, by omega⟩).2.1
      have bG := (bit_nI ⟨G, i2⟩ ⟨g, by omega⟩).2.1
      simp only [] at oM oG bM bG
      rw [eg, bM, bG]
      refine nm_e ⟨in8 (by omega), nm_e (s6_bits (by omega) (nm_e ?_))⟩
      rw [oM.2, i4, nI_mulN]
      have ef : fact (nbH m i) * (nbH m i + 1) = fact (nbH m (i + 1)) := by
        rw [nb1, Nat.mul_comm]; rfl
      rw [ef]
      refine nm_r (nI_1 i) (hk (M ||| 2 ^ i, G ||| 2 ^ g) ⟨⟨oM.1, fun k hk => ?_⟩, oG.1, fun k hk => ?_, by show pc (M ||| 2 ^ i) = _; omega, by show pc (G ||| 2 ^ g) = _; omega⟩)
      · show (M ||| 2 ^ i).testBit k = true ↔ _
        rw [← inS_bit, inS_orN, inS_bit, i1.2 k hk]
        constructor
        · rintro (q | q)
          · exact ⟨by omega, q.2⟩
          · rw [q]; exact ⟨by omega, hs⟩
        · rintro ⟨q1, q2⟩
          by_cases e : k = i
          · exact Or.inr e
          · exact Or.inl ⟨by omega, q2⟩
      · show (G ||| 2 ^ g).testBit k = true ↔ _
        rw [← inS_bit, inS_orN, inS_bit, i3 k hk]
        constructor
        · rintro (⟨j, q1, q2⟩ | q)
          · exact ⟨j, by omega, q2⟩
          · rw [q]; exact ⟨i, by omega, eg⟩
        · rintro ⟨j, q1, q2⟩
          by_cases e : j = i
          · rw [e, eg] at q2
            exact Or.inr (nI_inj (by omega) (by omega) q2).symm
          · exact Or.inl ⟨j, by omega, q2⟩
    · have hs : ¬ hsP m i = true := by unfold hsP; rw [decide_eq_true z]; decide
      have n0 : nbH m (i + 1) = nbH m i := by
        show nbH m i + (if hsP m i = true then 1 else 0) = _
        rw [if_neg hs, Nat.add_zero]
      have := hk (M, G) ⟨⟨i1.1, fun k hk => ?_⟩, i2, fun k hk => ?_, by show pc M = _; omega, by show pc G = _; omega⟩
      · rw [n0] at this
        exact nm_r (nI_1 i) this
      · rw [i1.2 k hk]
        constructor
        · rintro ⟨q1, q2⟩; exact ⟨by omega, q2⟩
        · rintro ⟨q1, q2⟩
          by_cases e : k = i
          · rw [e] at q2; exact absurd q2 hs
          · exact ⟨by omega, q2⟩
      · show G.testBit k = true ↔ _
        rw [i3 k hk]
        constructor
        · rintro ⟨j, q1, q2⟩; exact ⟨j, by omega, q2⟩
        · rintro ⟨j, q1, q2⟩
          by_cases e : j = i
          · rw [e, z] at q2; exact absurd q2.symm (nI_nm1 (by omega))
          · exact ⟨j, by omega, q2⟩
  · show (0 : Nat).testBit k = true ↔ _
    rw [Nat.zero_testBit]
    exact ⟨fun q => absurd q (by decide), fun q => absurd q.1 (Nat.not_lt_zero _)⟩
  · show (0 : Nat).testBit g = true ↔ _
    rw [Nat.zero_testBit]
    exact ⟨fun q => absurd q (by decide), fun ⟨k, q, _⟩ => absurd q (Nat.not_lt_zero _)⟩
end WT
