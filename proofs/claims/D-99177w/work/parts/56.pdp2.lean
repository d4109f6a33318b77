/-! ===== PURE: afternoon and lend of the component (printed by tools/gen_dp.py) ===== -/
def brA (m : Nat → Int32) (q : Int32) (a b : Nat) : Option Nat := if f_can m a b q then some 1 else none
def brL (m : Nat → Int32) (a b : Nat) : Option Nat := if (a < 8 ∧ b < 8) ∧ f_sees m b = 0 ∧ f_busy m (nI a) = 0 ∧ f_may m b a then some (m (67 + 8 * b + a)).toNatClampNeg else none
theorem brA_9 {m : Nat → Int32} (q : Int32) : ∀ a b v, brA m q a b = some v → v ≤ 9 := by
  intro a b v h
  unfold brA at h
  by_cases c : f_can m a b q
  · rw [if_pos c] at h
    have := Option.some.inj h
    omega
  · rw [if_neg c] at h
    exact absurd h (by simp)
theorem ix_shl {a S : Nat} (ha : a ≤ 9) : nI a <<< ((8 : Int32) &&& 31) + nI S = nI (256 * a + S) := by
  rw [pk_shlN _ 8 (by decide) (by omega), nI_add, show a * 2 ^ 8 = 256 * a by omega]
theorem nI_nlm1 {k : Nat} (h : k < 2 ^ 31) : ¬ nI k < (-1 : Int32) := by
  rw [Int32.lt_iff_toInt_lt, nI_toInt h]
  have : (-1 : Int32).toInt = -1 := by decide
  omega
section PD2
variable {x t : Nat} {V : Nat → Nat → Int32} {m T : Nat → Int32} {Q : Int32 → Prop} {Q0 : (Nat → Nat → Int32) → Prop} {Q2 : Int32 → (Nat → Nat → Int32) → Prop} {X : String → (Nat → Nat → Int32) → Prop} {q a1 : Int32}
theorem s1_afternoonBy_m1 {a S : Nat} {D : Nat → Nat} (ha : a < 8) (hS : S < 256) (row : TabAt V (x + 156) (a + 1) D) (hq : Q (nI (D S))) : wX1_afternoonBy x V q (nI a) (nI S) (-1) Q := by
  refine ⟨fun z => absurd rfl z, fun _ => ?_⟩
  unfold wX1_mostAt
  dsimp only
  rw [nI_1, ix_shl (by omega), nI_clamp (by omega), row S hS]
  exact ⟨in_2304 (by omega) hS, hq⟩
theorem s1_afternoonBy {a S b : Nat} {D : Nat → Nat} (hW : WRel V (x + 1) m) (hR : RowOk m) (ha : a < nH m) (hb : b < nG m) (hS : S < 256) (row : TabAt V (x + 156) (a + 1) D) (hq : Q (eno (dpV (brA m q) D a S b))) : wX1_afternoonBy x V q (nI a) (nI S) (nI b) Q := by
  have h8 := hR.H8; have g8 := hR.G8
  obtain ⟨o1, o2, o3⟩ := set_or ⟨S, hS⟩ ⟨b, by omega⟩
  simp only at o1 o2 o3
  unfold dpV brA at hq
  refine ⟨fun _ => s1_has (p_bn ?_), fun z => absurd z (nI_nm1 (by omega))⟩
  split
  · next z => rw [if_pos (o3.mp z)] at hq; exact hq
  · next z =>
    rw [if_neg (fun q => z (o3.mpr q))] at hq
    refine s2_can hW h8 g8 ha hb (p_bn ?_)
    split
    · next z2 =>
      rw [if_pos z2] at hq
      unfold wX1_mostAt
      dsimp only
      rw [o1, nI_1, ix_shl (by omega), nI_clamp (by omega), row _ o2]
      refine ⟨in_2304 (by omega) o2, ?_⟩
      rw [show (1 : Int32) + nI (D (S ||| 2 ^ b)) = nI (1 + D (S ||| 2 ^ b)) from nI_add 1 _]
      exact hq
    · next z2 => rw [if_neg z2] at hq; exact hq
theorem like_9 (hR : RowOk m) {a b : Nat} (ha : a < 8) (hb : b < 8) : ∃ r, r ≤ 9 ∧ m (67 + 8 * b + a) = nI r := by
  have := hR.2.1 (8 * b + a) (by omega)
  rw [← Nat.add_assoc] at this
  exact this
theorem brL_9 (hR : RowOk m) : ∀ a b v, brL m a b = some v → v ≤ 9 := by
  intro a b v h
  unfold brL at h
  by_cases c : (a < 8 ∧ b < 8) ∧ f_sees m b = 0 ∧ f_busy m (nI a) = 0 ∧ f_may m b a
  · rw [if_pos c] at h
    obtain ⟨r, hr, er⟩ := like_9 hR c.1.1 c.1.2
    rw [er, nI_clamp (by omega)] at h
    have := Option.some.inj h
    omega
  · rw [if_neg c] at h
    exact absurd h (by simp)
theorem s1_lentBy_m1 {a S : Nat} {D : Nat → Nat} (ha : a < 8) (hS : S < 256) (row : TabAt V (x + 159) (a + 1) D) (hq : Q (nI (D S))) : wX1_lentBy x V (nI a) (nI S) (-1) Q := by
  refine ⟨fun z => absurd rfl z, fun _ => ?_⟩
  unfold wX1_lentAt
  rw [nI_1, ix_shl (by omega)]
  dsimp only
  rw [nI_clamp (by omega), row S hS]
  exact ⟨in_2304 (by omega) hS, hq⟩
theorem s1_lentBy {a S b : Nat} {D : Nat → Nat} (hW : WRel V (x + 1) m) (hR : RowOk m) (ha : a < nG m) (hb : b < nH m) (hS : S < 256) (row : TabAt V (x + 159) (a + 1) D) (hq : Q (eno (dpV (brL m) D a S b))) : wX1_lentBy x V (nI a) (nI S) (nI b) Q := by
  have h8 := hR.H8; have g8 := hR.G8
  obtain ⟨o1, o2, o3⟩ := set_or ⟨S, hS⟩ ⟨b, by omega⟩
  simp only at o1 o2 o3
  unfold dpV brL at hq
  refine ⟨fun _ => s1_has (p_bn ?_), fun z => absurd z (nI_nm1 (by omega))⟩
  split
  · next z => rw [if_pos (o3.mp z)] at hq; exact hq
  · next z =>
    rw [if_neg (fun q => z (o3.mpr q))] at hq
    refine s2_sees hW h8 hb ⟨fun z1 => ?_, fun z1 => ?_⟩
    · rw [if_neg (fun q => z1 q.2.1)] at hq; exact hq
    · refine s2_busy hW hR ⟨fun z2 => ?_, fun z2 => ?_⟩
      · rw [if_neg (fun q => z2 q.2.2.1)] at hq; exact hq
      · refine s2_both hW h8 g8 hb ha (p_bn ?_)
        split
        · next z3 =>
          obtain ⟨r, hr, er⟩ := like_9 hR (show a < 8 by omega) (show b < 8 by omega)
          rw [if_pos ⟨⟨by omega, by omega⟩, z1, z2, z3⟩, er, nI_clamp (show r < 2 ^ 31 by omega)] at hq
          unfold wX1_lentAt
          rw [o1, nI_1, ix_shl (by omega)]
          dsimp only
          rw [nI_clamp (show 256 * (a + 1) + (S ||| 2 ^ b) < 2 ^ 31 by omega), row _ o2, cl8 (show a < 8 by omega), cl8 (show b < 8 by omega), hW.like hb ha, er, nI_add]
          exact ⟨in8 (by omega), in8 (by omega), in_2304 (by omega) o2, hq⟩
        · next z3 => rw [if_neg (fun q => z3 q.2.2.2)] at hq; exact hq
theorem s1_laysAfternoon (hW : WRel V (x + 1) m) (hR : RowOk m) (hq : ∀ V', (∀ a, a ≠ x + 156 → V' a = V a) → (∀ a, a ≤ nH m → TabAt V' (x + 156) a (dp (brA m q) (nH m) (nG m) (nH m - a))) → Q0 V') : wX1_laysAfternoon x V q Q0 := by
  have h8 := hR.H8; have g8 := hR.G8; have hH := hR.H; have hG := hR.G
  have hbr := brA_9 (m := m) q
  refine nm_r (hW.hosts.trans hH) ⟨(nH m + 1) + 1, ?_⟩
  have w0 : ∀ V1 : Nat → Nat → Int32, (∀ a, a ≠ x + 156 → V1 a = V a) → WRel V1 (x + 1) m := fun V1 f => hW.frame (fun a h1 h2 => f a (by omega)) h8 g8
  generalize hA : nH m = A at *
  generalize hB : nG m = B at *
  have hA8 : A ≤ 8 := by omega
  have hB8 : B ≤ 8 := by omega
  refine vloop (fun n V1 j => wX1_laysAfternoon_8 x q Q0 n V1 (nI (A + 1 - j) - 1)) (fun j V1 => (∀ a, a ≠ x + 156 → V1 a = V a) ∧ ∀ j', j' < j → TabAt V1 (x + 156) (A - j') (dp (brA m q) A B j')) (A + 1) ?_ ?_ (A + 1) 0 V (Nat.zero_add _) ⟨fun _ _ => rfl, fun S hS => absurd hS (Nat.not_lt_zero _)⟩ |> fun h => by rw [Nat.sub_zero, nI_pred] at h; exact h
  · rintro n V1 ⟨i1, i2⟩
    rw [wX1_laysAfternoon_8, Nat.sub_self]
    refine br_t (by decide) (hq V1 i1 (fun a ha => ?_))
    have := i2 (A - a) (by omega)
    rw [show A - (A - a) = a by omega] at this
    exact this
  · rintro n V1 j hj ⟨i1, i2⟩ hk
    have en : nI (A + 1 - j) - 1 = nI (A - j) := by rw [show A + 1 - j = (A - j) + 1 by omega, nI_pred]
    have en2 : nI (A - j) + (-1 : Int32) = nI (A + 1 - (j + 1)) - 1 := by rw [show A + 1 - (j + 1) = A - j by omega, Int32.sub_eq_add_neg]
    rw [wX1_laysAfternoon_8, en]
    refine br_f (nI_pos (by omega)) ⟨256 + 1, ?_⟩
    refine vloop (fun n2 V2 S => wX1_laysAfternoon_14 x q Q0 (fun V x2 => wX1_laysAfternoon_8 x q Q0 n V x2) n2 V2 (nI (A - j)) (nI S)) (fun i V2 => (∀ a, a ≠ x + 156 → V2 a = V a) ∧ (∀ k, 256 * (A - j + 1) ≤ k → V2 (x + 156) k = V1 (x + 156) k) ∧ ∀ S, S < i → V2 (x + 156) (256 * (A - j) + S) = nI (dp (brA m q) A B j S)) 256 ?_ ?_ 256 0 V1 rfl ⟨i1, fun _ _ => rfl, fun S hS => absurd hS (Nat.not_lt_zero _)⟩
    · rintro n2 V2 ⟨k1, k2, k3⟩
      rw [wX1_laysAfternoon_14]
      refine br_t (Int32.le_refl _) (nm_r en2 (hk V2 ⟨k1, fun j' hj' => ?_⟩))
      by_cases c : j' = j
      · rw [c]; exact k3
      · intro S hS
        rw [k2 _ (by omega)]
        exact i2 j' (by omega) S hS
    · rintro n2 V2 S hS ⟨k1, k2, k3⟩ hk2
      have f72 : wX1_laysAfternoon_72 x q Q0 (fun V x2 => wX1_laysAfternoon_8 x q Q0 n V x2) (fun V x2 x3 => wX1_laysAfternoon_14 x q Q0 (fun V x2 => wX1_laysAfternoon_8 x q Q0 n V x2) n2 V x2 x3) V2 (nI (A - j)) (nI S) (nI (dp (brA m q) A B j S)) := by
        unfold wX1_laysAfternoon_72 wX1_mostAt
        rw [ix_shl (by omega)]
        refine ⟨in_2304 (by omega) hS, nm_r (nI_1 S) (hk2 _ ⟨fun r hr => by rw [vset_n _ _ _ hr]; exact k1 r hr, fun k h => ?_, fun S' hS' => ?_⟩)⟩
        · rw [nI_clamp (by omega), vset_s, pk_un (by omega)]; exact k2 k h
        · rw [nI_clamp (by omega), vset_s]
          by_cases c : S' = S
          · rw [c, pk_us]
          · rw [pk_un (by omega)]; exact k3 S' (by omega)
      have w2 := w0 V2 k1
      have eB : V2 (x + 1) 2 = nI B := w2.guests.trans hG
      have eA : V2 (x + 1) 1 = nI A := w2.hosts.trans hH
      have nB : ¬ nI B ≤ (-1 : Int32) := by
        rw [Int32.le_iff_toInt_le, nI_toInt (by omega)]
        have : (-1 : Int32).toInt = -1 := by decide
        omega
      rw [wX1_laysAfternoon_14]
      refine br_f (nI_ge hS (by decide)) ?_
      by_cases c0 : j = 0
      · subst c0
        refine ⟨1, ?_⟩
        rw [wX1_laysAfternoon_27, eA, eB]
        exact br_f nB (br_t (nI_le (by omega) (by omega)) f72)
      · have row : TabAt V2 (x + 156) (A - j + 1) (dp (brA m q) A B (j - 1)) := fun S hS => by
          rw [k2 _ (by omega)]
          have := i2 (j - 1) (by omega) S hS
          rw [show A - (j - 1) = A - j + 1 by omega] at this
          exact this
        have ej : dp (brA m q) A B j S = dpN (brA m q) (dp (brA m q) A B (j - 1)) B (A - j) S := by
          rw [show j = (j - 1) + 1 by omega]
          show dpN (brA m q) _ B (A - ((j - 1) + 1)) S = _
          rw [show (j - 1) + 1 = j by omega]
        have e9 := dp_le (br := brA m q) (A := A) (B := B) hbr (j - 1)
        have haA : A - j < A := by omega
        rw [ej] at f72
        clear hk2 hk k3 k2 i2 en en2 ej
        generalize A - j = a at *
        generalize dp (brA m q) A B (j - 1) = D at *
        have lp : ∃ f9, wX1_laysAfternoon_27 x q Q0 (fun V x2 => wX1_laysAfternoon_8 x q Q0 n V x2) (fun V x2 x3 => wX1_laysAfternoon_14 x q Q0 (fun V x2 => wX1_laysAfternoon_8 x q Q0 n V x2) n2 V x2 x3) f9 V2 (nI a) (nI S) (nI (D S)) (nI 0) := by
          refine fo_loopI (fun n3 v b => wX1_laysAfternoon_27 x q Q0 (fun V x2 => wX1_laysAfternoon_8 x q Q0 n V x2) (fun V x2 x3 => wX1_laysAfternoon_14 x q Q0 (fun V x2 => wX1_laysAfternoon_8 x q Q0 n V x2) n2 V x2 x3) n3 V2 (nI a) (nI S) (nI v) (nI b)) (fun b v => mxo (dpV (brA m q) D a S b) v) (fun v => v = dpN (brA m q) D B a S) (fun _ v => v ≤ 9 * (j - 1) + 9) B ?_ (fun b v _ hv => mxo_le hv (dpV_le hbr e9)) ?_ B 0 (D S) (Nat.zero_add _) (Nat.le_trans (e9 S) (Nat.le_add_right _ _)) rfl
          · rintro n3 v rfl
            rw [wX1_laysAfternoon_27, eB]
            exact br_t (Int32.le_refl _) f72
          · intro n3 v b hb hv hk3
            rw [wX1_laysAfternoon_27, eA, eB]
            have hv2 := dpV_le (a := a) (S := S) (b := b) hbr e9
            refine br_f (nI_ge hb (by omega)) (br_f (nI_ge haA (by omega)) (s1_afternoonBy w2 hR (by omega) (by omega) hS row ?_))
            cases e : dpV (brA m q) D a S b with
            | none =>
              rw [e] at hk3
              refine nm_r ?_ (nm_r (nI_1 b) hk3)
              show (if nI v < -1 then (-1 : Int32) else nI v) = nI v
              rw [if_neg (nI_nlm1 (by omega))]
            | some w =>
              rw [e] at hk3
              have hw := hv2 w e
              refine nm_r ?_ (nm_r (nI_1 b) hk3)
              show (if nI v < nI w then nI w else nI v) = nI (if v < w then w else v)
              by_cases c : v < w
              · rw [if_pos c, if_pos (nI_lt c (by omega))]
              · rw [if_neg c, if_neg (fun q => c ((nI_ltI (by omega) (by omega)).mp q))]
        obtain ⟨f9, h9⟩ := lp
        refine ⟨f9 + 1, ?_⟩
        rw [wX1_laysAfternoon_27, eA, eB]
        refine br_f nB (br_f (nI_ge haA (by omega)) (s1_afternoonBy_m1 (by omega) hS row (nm_r ?_ (nm_r (show (-1 : Int32) + 1 = nI 0 by decide) h9))))
        have hD := e9 S
        show (if (0 : Int32) < nI (D S) then nI (D S) else 0) = nI (D S)
        by_cases c : 0 < D S
        · rw [if_pos (show (0 : Int32) < nI (D S) from nI_lt (a := 0) c (by omega))]
        · rw [show D S = 0 by omega]; rfl
theorem s1_afternoon_walk {K : Int32 → Prop} (hW : WRel V (x + 1) m) (hR : RowOk m) {one : Nat} (ho : one < nH m) (hV : ∀ a, a ≤ nH m → TabAt V (x + 156) a (dp (brA m q) (nH m) (nG m) (nH m - a))) (hq : Q2 (dpWith (brA m q) (nH m) (nG m) one) V) : ∃ f9, wX1_afternoon_39 x q (nI one) Q2 X f9 V (0 : Int32) (-1 : Int32) (0 : Int32) := by
  have h8 := hR.H8; have g8 := hR.G8
  have hbr := brA_9 (m := m) q
  have By := fun {V1 : Nat → Nat → Int32} {a S b : Nat} {D : Nat → Nat} {Q : Int32 → Prop} (hW : WRel V1 (x + 1) m) (ha : a < nH m) (hb : b < nG m) (hS : S < 256) (row : TabAt V1 (x + 156) (a + 1) D) (hq : Q (eno (dpV (brA m q) D a S b))) => s1_afternoonBy (Q := Q) hW hR ha hb hS row hq
  generalize hA : nH m = A at *
  generalize hB : nG m = B at *
  have hA8 : A ≤ 8 := by omega
  have hB8 : B ≤ 8 := by omega
  refine fo_loopI (fun n (z : Nat × Int32) a => wX1_afternoon_39 x q (nI one) Q2 X n V (nI z.1) z.2 (nI a)) (dpSt (brA m q) A B) (fun z => Q2 z.2 V) (fun _ z => z.1 < 256) (one + 1) ?_ ?_ ?_ (one + 1) 0 (0, -1) (Nat.zero_add _) (by decide) hq
  · intro n z hP
    rw [wX1_afternoon_39]
    exact br_t (nI_lt (by omega) (by omega)) hP
  · intro a z ha hz
    unfold dpSt
    try simp only
    rcases dpCh_or (br := brA m q) (A := A) (B := B) (S := z.1) (show a < A by omega) with ⟨-, e⟩ | ⟨-, b, hb, -, e, -⟩
    · rw [if_pos e]; exact hz
    · rw [e, if_neg (nI_nm1 (by omega)), cl8 (by omega)]
      exact (set_or ⟨z.1, hz⟩ ⟨b, by omega⟩).2.1
  · rintro n ⟨S, f⟩ a ha hS hk
    simp only at hS
    have t0 : V (x + 156) (256 * a + S) = nI (dp (brA m q) A B (A - a) S) := hV a (by omega) S hS
    have t1 : TabAt V (x + 156) (a + 1) (dp (brA m q) A B (A - (a + 1))) := hV (a + 1) (by omega)
    have l1 := dp_le (br := brA m q) (A := A) (B := B) hbr (A - (a + 1))
    have l0 := dp_le (br := brA m q) (A := A) (B := B) hbr (A - a) S
    have l1S := l1 S
    rw [wX1_afternoon_39]
    refine br_f (nI_nlt (by omega) (by omega)) ?_
    unfold dpSt at hk
    rcases dpCh_or (br := brA m q) (A := A) (B := B) (S := S) (show a < A by omega) with ⟨e0, e⟩ | ⟨e0, b0, hb0, -, e, ef⟩
    · simp only at hk
      rw [e, if_pos rfl] at hk
      refine ⟨1, ?_⟩
      rw [wX1_afternoon_48]
      refine s1_afternoonBy_m1 (by omega) hS t1 ?_
      unfold wX1_mostAt
      dsimp only
      rw [ix_shl (by omega), nI_clamp (by omega), t0, e0]
      exact ⟨in_2304 (by omega) hS, br_t rfl (br_t rfl (nm_r (nI_1 a) hk))⟩
    · obtain ⟨o1, o2, -⟩ := set_or ⟨S, hS⟩ ⟨b0, by omega⟩
      simp only at hk o1 o2
      rw [e, if_neg (nI_nm1 (by omega)), cl8 (by omega)] at hk
      have srch : ∀ k i, i + k = B → fstB (fun b => isV (dpV (brA m q) (dp (brA m q) A B (A - (a + 1))) a S b) (dp (brA m q) A B (A - a) S)) k i = nI b0 → ∃ n2, wX1_afternoon_48 x q (nI one) Q2 X (fun V x2 x3 x4 => wX1_afternoon_39 x q (nI one) Q2 X n V x2 x3 x4) n2 V (nI S) (nI i) (nI a) := by
        intro k
        induction k with
        | zero => intro i _ h; exact absurd h.symm (nI_nm1 (by omega))
        | succ k ih =>
          intro i hi h
          have hv2 := dpV_le (a := a) (S := S) (b := i) hbr l1
          change (if isV (dpV (brA m q) (dp (brA m q) A B (A - (a + 1))) a S i) (dp (brA m q) A B (A - a) S) = true then nI i else _) = nI b0 at h
          by_cases c : isV (dpV (brA m q) (dp (brA m q) A B (A - (a + 1))) a S i) (dp (brA m q) A B (A - a) S) = true
          · rw [if_pos c] at h
            refine ⟨1, ?_⟩
            rw [wX1_afternoon_48]
            refine By hW (by omega) (by omega) hS t1 ?_
            unfold wX1_mostAt
            dsimp only
            rw [of_decide_eq_true c, ix_shl (by omega), nI_clamp (show 256 * a + S < 2 ^ 31 by omega), t0]
            refine ⟨in_2304 (by omega) hS, br_t rfl ⟨fun z => absurd z (nI_nm1 (by omega)), fun _ => ?_⟩⟩
            rw [h]
            exact nm_r o1 (nm_r (nI_1 a) hk)
          · rw [if_neg c] at h
            obtain ⟨n2, hn2⟩ := ih (i + 1) (by omega) h
            refine ⟨n2 + 1, ?_⟩
            rw [wX1_afternoon_48]
            refine By hW (by omega) (by omega) hS t1 ?_
            unfold wX1_mostAt
            dsimp only
            rw [ix_shl (by omega), nI_clamp (show 256 * a + S < 2 ^ 31 by omega), t0]
            refine ⟨in_2304 (by omega) hS, br_f ?_ (nm_r (nI_1 i) hn2)⟩
            intro z
            apply c
            cases qq : dpV (brA m q) (dp (brA m q) A B (A - (a + 1))) a S i with
            | none => rw [qq] at z; exact absurd (show (-1 : Int32) = _ from z).symm (nI_nm1 (by omega))
            | some w =>
              rw [qq] at z
              have hw := hv2 w qq
              have z2 : w = dp (brA m q) A B (A - a) S := (nI_eq (by omega) (by omega)).mp z
              rw [z2]
              exact decide_eq_true rfl
      obtain ⟨n2, hn2⟩ := srch B 0 (Nat.zero_add _) ef
      refine ⟨n2 + 1, ?_⟩
      rw [wX1_afternoon_48]
      refine s1_afternoonBy_m1 (by omega) hS t1 ?_
      unfold wX1_mostAt
      dsimp only
      rw [ix_shl (by omega), nI_clamp (by omega), t0]
      exact ⟨in_2304 (by omega) hS, br_f (fun z => e0 ((nI_eq (by omega) (by omega)).mp z)) (nm_r (show (-1 : Int32) + 1 = nI 0 by decide) hn2)⟩
theorem s1_laysLent (hW : WRel V (x + 1) m) (hR : RowOk m) (hq : ∀ V', (∀ a, a ≠ x + 159 → V' a = V a) → (∀ a, a ≤ nG m → TabAt V' (x + 159) a (dp (brL m) (nG m) (nH m) (nG m - a))) → Q0 V') : wX1_laysLent x V Q0 := by
  have h8 := hR.H8; have g8 := hR.G8; have hH := hR.H; have hG := hR.G
  have hbr := brL_9 (m := m) hR
  refine nm_r (hW.guests.trans hG) ⟨(nG m + 1) + 1, ?_⟩
  have w0 : ∀ V1 : Nat → Nat → Int32, (∀ a, a ≠ x + 159 → V1 a = V a) → WRel V1 (x + 1) m := fun V1 f => hW.frame (fun a h1 h2 => f a (by omega)) h8 g8
  generalize hA : nG m = A at *
  generalize hB : nH m = B at *
  have hA8 : A ≤ 8 := by omega
  have hB8 : B ≤ 8 := by omega
  refine vloop (fun n V1 j => wX1_laysLent_8 x Q0 n V1 (nI (A + 1 - j) - 1)) (fun j V1 => (∀ a, a ≠ x + 159 → V1 a = V a) ∧ ∀ j', j' < j → TabAt V1 (x + 159) (A - j') (dp (brL m) A B j')) (A + 1) ?_ ?_ (A + 1) 0 V (Nat.zero_add _) ⟨fun _ _ => rfl, fun S hS => absurd hS (Nat.not_lt_zero _)⟩ |> fun h => by rw [Nat.sub_zero, nI_pred] at h; exact h
  · rintro n V1 ⟨i1, i2⟩
    rw [wX1_laysLent_8, Nat.sub_self]
    refine br_t (by decide) (hq V1 i1 (fun a ha => ?_))
    have := i2 (A - a) (by omega)
    rw [show A - (A - a) = a by omega] at this
    exact this
  · rintro n V1 j hj ⟨i1, i2⟩ hk
    have en : nI (A + 1 - j) - 1 = nI (A - j) := by rw [show A + 1 - j = (A - j) + 1 by omega, nI_pred]
    have en2 : nI (A - j) + (-1 : Int32) = nI (A + 1 - (j + 1)) - 1 := by rw [show A + 1 - (j + 1) = A - j by omega, Int32.sub_eq_add_neg]
    rw [wX1_laysLent_8, en]
    refine br_f (nI_pos (by omega)) ⟨256 + 1, ?_⟩
    refine vloop (fun n2 V2 S => wX1_laysLent_14 x Q0 (fun V x2 => wX1_laysLent_8 x Q0 n V x2) n2 V2 (nI (A - j)) (nI S)) (fun i V2 => (∀ a, a ≠ x + 159 → V2 a = V a) ∧ (∀ k, 256 * (A - j + 1) ≤ k → V2 (x + 159) k = V1 (x + 159) k) ∧ ∀ S, S < i → V2 (x + 159) (256 * (A - j) + S) = nI (dp (brL m) A B j S)) 256 ?_ ?_ 256 0 V1 rfl ⟨i1, fun _ _ => rfl, fun S hS => absurd hS (Nat.not_lt_zero _)⟩
    · rintro n2 V2 ⟨k1, k2, k3⟩
      rw [wX1_laysLent_14]
      refine br_t (Int32.le_refl _) (nm_r en2 (hk V2 ⟨k1, fun j' hj' => ?_⟩))
      by_cases c : j' = j
      · rw [c]; exact k3
      · intro S hS
        rw [k2 _ (by omega)]
        exact i2 j' (by omega) S hS
    · rintro n2 V2 S hS ⟨k1, k2, k3⟩ hk2
      have f72 : wX1_laysLent_68 x Q0 (fun V x2 => wX1_laysLent_8 x Q0 n V x2) (fun V x2 x3 => wX1_laysLent_14 x Q0 (fun V x2 => wX1_laysLent_8 x Q0 n V x2) n2 V x2 x3) V2 (nI (A - j)) (nI S) (nI (dp (brL m) A B j S)) := by
        unfold wX1_laysLent_68 wX1_lentAt
        rw [ix_shl (by omega)]
        refine ⟨in_2304 (by omega) hS, nm_r (nI_1 S) (hk2 _ ⟨fun r hr => by rw [vset_n _ _ _ hr]; exact k1 r hr, fun k h => ?_, fun S' hS' => ?_⟩)⟩
        · rw [nI_clamp (by omega), vset_s, pk_un (by omega)]; exact k2 k h
        · rw [nI_clamp (by omega), vset_s]
          by_cases c : S' = S
          · rw [c, pk_us]
          · rw [pk_un (by omega)]; exact k3 S' (by omega)
      have w2 := w0 V2 k1
      have eB : V2 (x + 1) 1 = nI B := w2.hosts.trans hH
      have eA : V2 (x + 1) 2 = nI A := w2.guests.trans hG
      have nB : ¬ nI B ≤ (-1 : Int32) := by
        rw [Int32.le_iff_toInt_le, nI_toInt (by omega)]
        have : (-1 : Int32).toInt = -1 := by decide
        omega
      rw [wX1_laysLent_14]
      refine br_f (nI_ge hS (by decide)) ?_
      by_cases c0 : j = 0
      · subst c0
        refine ⟨1, ?_⟩
        rw [wX1_laysLent_26, eA, eB]
        exact br_f nB (br_t (nI_le (by omega) (by omega)) f72)
      · have row : TabAt V2 (x + 159) (A - j + 1) (dp (brL m) A B (j - 1)) := fun S hS => by
          rw [k2 _ (by omega)]
          have := i2 (j - 1) (by omega) S hS
          rw [show A - (j - 1) = A - j + 1 by omega] at this
          exact this
        have ej : dp (brL m) A B j S = dpN (brL m) (dp (brL m) A B (j - 1)) B (A - j) S := by
          rw [show j = (j - 1) + 1 by omega]
          show dpN (brL m) _ B (A - ((j - 1) + 1)) S = _
          rw [show (j - 1) + 1 = j by omega]
        have e9 := dp_le (br := brL m) (A := A) (B := B) hbr (j - 1)
        have haA : A - j < A := by omega
        rw [ej] at f72
        clear hk2 hk k3 k2 i2 en en2 ej
        generalize A - j = a at *
        generalize dp (brL m) A B (j - 1) = D at *
        have lp : ∃ f9, wX1_laysLent_26 x Q0 (fun V x2 => wX1_laysLent_8 x Q0 n V x2) (fun V x2 x3 => wX1_laysLent_14 x Q0 (fun V x2 => wX1_laysLent_8 x Q0 n V x2) n2 V x2 x3) f9 V2 (nI a) (nI S) (nI (D S)) (nI 0) := by
          refine fo_loopI (fun n3 v b => wX1_laysLent_26 x Q0 (fun V x2 => wX1_laysLent_8 x Q0 n V x2) (fun V x2 x3 => wX1_laysLent_14 x Q0 (fun V x2 => wX1_laysLent_8 x Q0 n V x2) n2 V x2 x3) n3 V2 (nI a) (nI S) (nI v) (nI b)) (fun b v => mxo (dpV (brL m) D a S b) v) (fun v => v = dpN (brL m) D B a S) (fun _ v => v ≤ 9 * (j - 1) + 9) B ?_ (fun b v _ hv => mxo_le hv (dpV_le hbr e9)) ?_ B 0 (D S) (Nat.zero_add _) (Nat.le_trans (e9 S) (Nat.le_add_right _ _)) rfl
          · rintro n3 v rfl
            rw [wX1_laysLent_26, eB]
            exact br_t (Int32.le_refl _) f72
          · intro n3 v b hb hv hk3
            rw [wX1_laysLent_26, eA, eB]
            have hv2 := dpV_le (a := a) (S := S) (b := b) hbr e9
            refine br_f (nI_ge hb (by omega)) (br_f (nI_ge haA (by omega)) (s1_lentBy w2 hR (by omega) (by omega) hS row ?_))
            cases e : dpV (brL m) D a S b with
            | none =>
              rw [e] at hk3
              refine nm_r ?_ (nm_r (nI_1 b) hk3)
              show (if nI v < -1 then (-1 : Int32) else nI v) = nI v
              rw [if_neg (nI_nlm1 (by omega))]
            | some w =>
              rw [e] at hk3
              have hw := hv2 w e
              refine nm_r ?_ (nm_r (nI_1 b) hk3)
              show (if nI v < nI w then nI w else nI v) = nI (if v < w then w else v)
              by_cases c : v < w
              · rw [if_pos c, if_pos (nI_lt c (by omega))]
              · rw [if_neg c, if_neg (fun q => c ((nI_ltI (by omega) (by omega)).mp q))]
        obtain ⟨f9, h9⟩ := lp
        refine ⟨f9 + 1, ?_⟩
        rw [wX1_laysLent_26, eA, eB]
        refine br_f nB (br_f (nI_ge haA (by omega)) (s1_lentBy_m1 (by omega) hS row (nm_r ?_ (nm_r (show (-1 : Int32) + 1 = nI 0 by decide) h9))))
        have hD := e9 S
        show (if (0 : Int32) < nI (D S) then nI (D S) else 0) = nI (D S)
        by_cases c : 0 < D S
        · rw [if_pos (show (0 : Int32) < nI (D S) from nI_lt (a := 0) c (by omega))]
        · rw [show D S = 0 by omega]; rfl
theorem s1_lend_walk {K : Int32 → Prop} (hW : WRel V (x + 1) m) (hR : RowOk m) {one : Nat} (ho : one < nG m) (hV : ∀ a, a ≤ nG m → TabAt V (x + 159) a (dp (brL m) (nG m) (nH m) (nG m - a))) (hq : Q2 (dpWith (brL m) (nG m) (nH m) one) V) : ∃ f9, wX1_lend_33 x (nI one) Q2 X f9 V (0 : Int32) (-1 : Int32) (0 : Int32) := by
  have h8 := hR.H8; have g8 := hR.G8
  have hbr := brL_9 (m := m) hR
  have By := fun {V1 : Nat → Nat → Int32} {a S b : Nat} {D : Nat → Nat} {Q : Int32 → Prop} (hW : WRel V1 (x + 1) m) (ha : a < nG m) (hb : b < nH m) (hS : S < 256) (row : TabAt V1 (x + 159) (a + 1) D) (hq : Q (eno (dpV (brL m) D a S b))) => s1_lentBy (Q := Q) hW hR ha hb hS row hq
  generalize hA : nG m = A at *
  generalize hB : nH m = B at *
  have hA8 : A ≤ 8 := by omega
  have hB8 : B ≤ 8 := by omega
  refine fo_loopI (fun n (z : Nat × Int32) a => wX1_lend_33 x (nI one) Q2 X n V (nI z.1) z.2 (nI a)) (dpSt (brL m) A B) (fun z => Q2 z.2 V) (fun _ z => z.1 < 256) (one + 1) ?_ ?_ ?_ (one + 1) 0 (0, -1) (Nat.zero_add _) (by decide) hq
  · intro n z hP
    rw [wX1_lend_33]
    exact br_t (nI_lt (by omega) (by omega)) hP
  · intro a z ha hz
    unfold dpSt
    try simp only
    rcases dpCh_or (br := brL m) (A := A) (B := B) (S := z.1) (show a < A by omega) with ⟨-, e⟩ | ⟨-, b, hb, -, e, -⟩
    · rw [if_pos e]; exact hz
    · rw [e, if_neg (nI_nm1 (by omega)), cl8 (by omega)]
      exact (set_or ⟨z.1, hz⟩ ⟨b, by omega⟩).2.1
  · rintro n ⟨S, f⟩ a ha hS hk
    simp only at hS
    have t0 : V (x + 159) (256 * a + S) = nI (dp (brL m) A B (A - a) S) := hV a (by omega) S hS
    have t1 : TabAt V (x + 159) (a + 1) (dp (brL m) A B (A - (a + 1))) := hV (a + 1) (by omega)
    have l1 := dp_le (br := brL m) (A := A) (B := B) hbr (A - (a + 1))
    have l0 := dp_le (br := brL m) (A := A) (B := B) hbr (A - a) S
    have l1S := l1 S
    rw [wX1_lend_33]
    refine br_f (nI_nlt (by omega) (by omega)) ?_
    unfold dpSt at hk
    rcases dpCh_or (br := brL m) (A := A) (B := B) (S := S) (show a < A by omega) with ⟨e0, e⟩ | ⟨e0, b0, hb0, -, e, ef⟩
    · simp only at hk
      rw [e, if_pos rfl] at hk
      refine ⟨1, ?_⟩
      rw [wX1_lend_41]
      refine s1_lentBy_m1 (by omega) hS t1 ?_
      unfold wX1_lentAt
      dsimp only
      rw [ix_shl (by omega), nI_clamp (by omega), t0, e0]
      exact ⟨in_2304 (by omega) hS, br_t rfl (br_t rfl (nm_r (nI_1 a) hk))⟩
    · obtain ⟨o1, o2, -⟩ := set_or ⟨S, hS⟩ ⟨b0, by omega⟩
      simp only at hk o1 o2
      rw [e, if_neg (nI_nm1 (by omega)), cl8 (by omega)] at hk
      have srch : ∀ k i, i + k = B → fstB (fun b => isV (dpV (brL m) (dp (brL m) A B (A - (a + 1))) a S b) (dp (brL m) A B (A - a) S)) k i = nI b0 → ∃ n2, wX1_lend_41 x (nI one) Q2 X (fun V x2 x3 x4 => wX1_lend_33 x (nI one) Q2 X n V x2 x3 x4) n2 V (nI S) (nI i) (nI a) := by
        intro k
        induction k with
        | zero => intro i _ h; exact absurd h.symm (nI_nm1 (by omega))
        | succ k ih =>
          intro i hi h
          have hv2 := dpV_le (a := a) (S := S) (b := i) hbr l1
          change (if isV (dpV (brL m) (dp (brL m) A B (A - (a + 1))) a S i) (dp (brL m) A B (A - a) S) = true then nI i else _) = nI b0 at h
          by_cases c : isV (dpV (brL m) (dp (brL m) A B (A - (a + 1))) a S i) (dp (brL m) A B (A - a) S) = true
          · rw [if_pos c] at h
            refine ⟨1, ?_⟩
            rw [wX1_lend_41]
            refine By hW (by omega) (by omega) hS t1 ?_
            unfold wX1_lentAt
            dsimp only
            rw [of_decide_eq_true c, ix_shl (by omega), nI_clamp (show 256 * a + S < 2 ^ 31 by omega), t0]
            refine ⟨in_2304 (by omega) hS, br_t rfl ⟨fun z => absurd z (nI_nm1 (by omega)), fun _ => ?_⟩⟩
            rw [h]
            exact nm_r o1 (nm_r (nI_1 a) hk)
          · rw [if_neg c] at h
            obtain ⟨n2, hn2⟩ := ih (i + 1) (by omega) h
            refine ⟨n2 + 1, ?_⟩
            rw [wX1_lend_41]
            refine By hW (by omega) (by omega) hS t1 ?_
            unfold wX1_lentAt
            dsimp only
            rw [ix_shl (by omega), nI_clamp (show 256 * a + S < 2 ^ 31 by omega), t0]
            refine ⟨in_2304 (by omega) hS, br_f ?_ (nm_r (nI_1 i) hn2)⟩
            intro z
            apply c
            cases qq : dpV (brL m) (dp (brL m) A B (A - (a + 1))) a S i with
            | none => rw [qq] at z; exact absurd (show (-1 : Int32) = _ from z).symm (nI_nm1 (by omega))
            | some w =>
              rw [qq] at z
              have hw := hv2 w qq
              have z2 : w = dp (brL m) A B (A - a) S := (nI_eq (by omega) (by omega)).mp z
              rw [z2]
              exact decide_eq_true rfl
      obtain ⟨n2, hn2⟩ := srch B 0 (Nat.zero_add _) ef
      refine ⟨n2 + 1, ?_⟩
      rw [wX1_lend_41]
      refine s1_lentBy_m1 (by omega) hS t1 ?_
      unfold wX1_lentAt
      dsimp only
      rw [ix_shl (by omega), nI_clamp (by omega), t0]
      exact ⟨in_2304 (by omega) hS, br_f (fun z => e0 ((nI_eq (by omega) (by omega)).mp z)) (nm_r (show (-1 : Int32) + 1 = nI 0 by decide) hn2)⟩
end PD2
