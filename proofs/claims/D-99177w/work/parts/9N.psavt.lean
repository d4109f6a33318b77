/-! ===== PURE: saved in the twin ===== -/
section ST
variable {sh : List jH} {V : Nat → Nat → Int32} {R : Nat → Nat → Option Nat} {t : Nat} {law : Option (List Ln)} {Q : Int32 → (Nat → Nat → Int32) → Prop}
def Tab (V : Nat → Nat → Int32) (t : Nat) (A : Nat → Option Nat) : Prop := ∀ S, S < 256 → V (t + 10) S = eno (A S)
theorem nI_dec {S : Nat} : nI (S + 1) - 1 = nI S := by rw [← nI_1, Int32.add_sub_cancel]
theorem e_255 : (255 : Int32) = nI (256 - 0) - 1 := by decide +kernel
theorem gr_eno {a : Option Nat} {v : Nat} {Q : Int32 → Prop} (ha : leO a 0 9) (hv : v ≤ 9) (hq : Q (eno (mxO a (v + 1)))) : wX6_greater (eno a) (nI v + 1) Q := by
  rw [nI_1]
  cases a with
  | none => exact br_t (by
      rw [show eno none = (-1 : Int32) from rfl, ← Int32.not_lt]
      exact nI_nlm1 (by omega)) hq
  | some u =>
    have hu := ha u rfl
    show wX6_greater (nI u) (nI (v + 1)) Q
    have hq : Q (nI (max u (v + 1))) := hq
    refine s6_greater (by omega) (by omega) ?_
    split
    · next z => rw [Nat.max_eq_right (by omega)] at hq; exact hq
    · next z => rw [Nat.max_eq_left (by omega)] at hq; exact hq
theorem s6_stage {a1 a2 x3 x4 msk : Int32} {x5 : Int32} {A : Nat → Option Nat} {fit : Nat → Bool} {K82 : (Nat → Nat → Int32) → Int32 → Int32 → Int32 → Prop} (hA : Tab V t A) (hB : ∀ S, S < 256 → leO (A S) 0 8) (hf : ∀ j, j < 8 → (isOf msk (nI j) ↔ fit j = true)) (hq : ∀ c, (∀ b, b ≠ t + 10 → c b = V b) → Tab c t (stA A fit) → K82 c x3 x4 (x5 + 1)) : ∃ f9, wX6_saved_136 t sh R a1 a2 Q K82 f9 V x3 x4 x5 msk 255 := by
  rw [e_255]
  refine ⟨_, vloop (fun n (b : Nat → Nat → Int32) i => wX6_saved_136 t sh R a1 a2 Q K82 n b x3 x4 x5 msk (nI (256 - i) - 1)) (fun i b => (∀ b', b' ≠ t + 10 → b b' = V b') ∧ ∀ S, S < 256 → b (t + 10) S = eno (if 256 - i ≤ S then stA A fit S else A S)) 256 ?_ ?_ 256 0 V (Nat.zero_add _) ⟨fun _ _ => rfl, fun S hS => by rw [if_neg (by omega)]; exact hA S hS⟩⟩
  · intro n b hI
    obtain ⟨i1, i2⟩ := hI
    show wX6_saved_136 t sh R a1 a2 Q K82 (n + 1) b x3 x4 x5 msk (nI 0 - 1)
    rw [wX6_saved_136]
    refine br_t (by decide) (nm_e (hq b i1 (fun S hS => ?_)))
    rw [i2 S hS, if_pos (by omega)]
  · intro n b i hi hI hk
    obtain ⟨i1, i2⟩ := hI
    obtain ⟨S0, hS0⟩ : ∃ S0, 256 - i = S0 + 1 := ⟨255 - i, by omega⟩
    rw [hS0] at i2 ⊢
    rw [nI_dec, wX6_saved_136]
    refine br_f (by rw [show (0 : Int32) = nI 0 from rfl, nI_ltI (by omega) (by omega)]; omega) ?_
    have S8 : S0 < 256 := by omega
    refine ⟨_, vloop (fun n2 (c : Nat → Nat → Int32) j => wX6_saved_144 t sh R a1 a2 Q K82 (fun V x3 x4 x5 x7 x8 => wX6_saved_136 t sh R a1 a2 Q K82 n V x3 x4 x5 x7 x8) n2 c x3 x4 x5 msk (nI S0) (nI j)) (fun j c => (∀ b', b' ≠ t + 10 → c b' = V b') ∧ (∀ S, S < 256 → S ≠ S0 → c (t + 10) S = eno (if S0 + 1 ≤ S then stA A fit S else A S)) ∧ ∃ a, c (t + 10) S0 = eno a ∧ leO a 0 9 ∧ fo (stS A fit S0) (8 - j) j a = stA A fit S0) 8 ?_ ?_ 8 0 b (Nat.zero_add _) ⟨i1, fun S hS _ => i2 S hS, A S0, by rw [i2 S0 S8, if_neg (by omega)], fun v hv => by have := hB S0 S8 v hv; omega, rfl⟩⟩
    · intro n2 c hI
      obtain ⟨j1, j2, a, j3, j4, j5⟩ := hI
      rw [fo_end] at j5
      show wX6_saved_144 t sh R a1 a2 Q K82 (fun V x3 x4 x5 x7 x8 => wX6_saved_136 t sh R a1 a2 Q K82 n V x3 x4 x5 x7 x8) (n2 + 1) c x3 x4 x5 msk (nI S0) (nI 8)
      rw [wX6_saved_144]
      refine br_t (by decide) (nm_e ?_)
      have hk2 := hk c ⟨j1, fun S hS => ?_⟩
      · rw [show 256 - (i + 1) = S0 by omega] at hk2
        rw [Int32.sub_eq_add_neg] at hk2
        exact hk2
      · by_cases z : S = S0
        · rw [z, if_pos (by omega), j3, j5]
        · rw [j2 S hS z]
          by_cases z2 : S0 + 1 ≤ S
          · rw [if_pos z2, if_pos (by omega)]
          · rw [if_neg z2, if_neg (by omega)]
    · intro n2 c j hj hI hk2
      obtain ⟨j1, j2, a, j3, j4, j5⟩ := hI
      rw [fo_pop hj] at j5
      show wX6_saved_144 t sh R a1 a2 Q K82 (fun V x3 x4 x5 x7 x8 => wX6_saved_136 t sh R a1 a2 Q K82 n V x3 x4 x5 x7 x8) (n2 + 1) c x3 x4 x5 msk (nI S0) (nI j)
      rw [wX6_saved_144]
      refine br_f (nI_ge hj (by decide)) (s6_isOf (p_bz ?_))
      have b8 := bit_nI ⟨S0, S8⟩ ⟨j, hj⟩
      simp only [] at b8
      have hb : isOf (nI S0 &&& msk) (nI j) ↔ (fit j && S0.testBit j) = true := by
        rw [isOf_and, b8.1, hf j hj, Bool.and_eq_true]
        exact ⟨fun z => ⟨z.2, z.1⟩, fun z => ⟨z.2, z.1⟩⟩
      split
      · next z =>
        have z1 := hb.1 z
        have zt := (Bool.and_eq_true _ _ ▸ z1 : fit j = true ∧ S0.testBit j = true).2
        have bf := (bit_f ⟨S0, S8⟩ ⟨j, hj⟩).2 zt
        simp only [] at bf
        rw [b8.2.2.1 zt, nI_clamp (show S0 - 2 ^ j < 2 ^ 31 by omega), j2 (S0 - 2 ^ j) (by omega) (by omega), if_neg (by omega)]
        have es : stS A fit S0 j a = (match A (S0 - 2 ^ j) with | none => a | some v => mxO a (v + 1)) := by
          unfold stS
          rw [if_pos z1]
          cases A (S0 - 2 ^ j) <;> rfl
        rw [es] at j5
        refine ⟨vp_in_nI (by omega) (by decide), fun z2 => ?_, fun z2 => ⟨vp_in_nI S8 (by decide), vp_in_nI (by omega) (by decide), ?_⟩⟩
        · cases hA2 : A (S0 - 2 ^ j) with
          | none =>
            rw [hA2] at j5
            exact nm_r (nI_1 j) (hk2 c ⟨j1, j2, a, j3, j4, j5⟩)
          | some v =>
            rw [hA2] at z2
            have hv := hB (S0 - 2 ^ j) (by omega) v hA2
            exact absurd z2 (nI_nm1 (by omega))
        · cases hA2 : A (S0 - 2 ^ j) with
          | none =>
            rw [hA2] at z2
            exact absurd rfl z2
          | some v =>
            rw [hA2] at j5
            have hv := hB (S0 - 2 ^ j) (by omega) v hA2
            rw [nI_clamp (show S0 < 2 ^ 31 by omega), j3]
            refine gr_eno j4 (by omega) ⟨vp_in_nI S8 (by decide), nm_r (nI_1 j) (hk2 _ ⟨fun b' hb' => by rw [vset_n _ _ _ hb']; exact j1 b' hb', fun S hS hne => by rw [vset_at, if_neg hne]; exact j2 S hS hne, mxO a (v + 1), by rw [vset_at, if_pos rfl], mxO_le.2 ⟨j4, by omega⟩, j5⟩)⟩
      · next z =>
        have z1 : ¬ (fit j && S0.testBit j) = true := fun q => z (hb.2 q)
        have es : stS A fit S0 j a = a := by
          unfold stS
          rw [if_neg z1]
        rw [es] at j5
        exact nm_r (nI_1 j) (hk2 c ⟨j1, j2, a, j3, j4, j5⟩)
theorem TsF.set10 {V1 c : Nat → Nat → Int32} (h : TsF V1 t c) {d : Nat → Nat → Int32} (hd : ∀ b, b ≠ t + 10 → d b = c b) : TsF V1 t d :=
  ⟨fun b b1 b2 b3 => by rw [hd b (by omega)]; exact h.1 b b1 b2 b3, fun j hj => by rw [hd t (by omega)]; exact h.2.1 j hj, by rw [hd t (by omega)]; exact h.2.2.1, by rw [hd t (by omega)]; exact h.2.2.2⟩
theorem s6_saved {h wet : Int32} (hC : ConSh sh) (hR : RowOk (V (t + 1))) (hL : LawT (V (t + 1)) law) (h15 : jz (V t 15)) (h16 : jz (V t 16)) (hq : match o_saved (V (t + 1)) law h wet with | .inl r => ∀ V', TsF (vset V t 0 0) t V' → Q r V' | .inr e => ∀ r, Q r (vset V t 0 e.2)) : wX6_saved t sh R V h wet Q := by
  unfold o_saved at hq
  refine s6_isHost ?_
  by_cases c : isHostP (V (t + 1)) h
  · rw [b2i_t c]
    rw [if_pos c] at hq
    obtain ⟨k, hk, hk8, rfl⟩ := hR.host c
    rw [cl8 hk8] at hq
    refine ⟨fun _ => ?_, fun z => absurd z (by decide)⟩
    unfold wX6_saved_14
    rw [vt0]
    refine br_t (by decide) ?_
    have hq : ∀ V', TsF (vset V t 0 0) t V' → Q (nI (f_saved (V (t + 1)) law k wet)) V' := hq
    have e1 : vset V t 0 0 (t + 1) = V (t + 1) := vt1
    rw [← e1] at hR hL hq hk
    have h15 : jz (vset V t 0 0 t 15) := jzk0 (by decide) h15
    have h16 : jz (vset V t 0 0 t 16) := jzk0 (by decide) h16
    clear e1 c
    generalize vset V t 0 0 = V1 at *
    obtain ⟨m, hm⟩ : ∃ m, m = V1 (t + 1) := ⟨_, rfl⟩
    refine s6_meetsIn (law := law) hC hR hL h15 h16 hk8 (fun V2 a2 => nm_e ?_)
    have f2 : TsF V1 t V2 := TsF.q (TqF.ask a2)
    have er2 : V2 (t + 1) = m := by rw [f2.row, hm]
    refine s6_freeOf hk8 (nm_e ?_)
    rw [er2, ← hm]
    rw [← hm] at hq hR hk
    refine ⟨_, vloop (fun n (b : Nat → Nat → Int32) i => wX6_saved_48 t sh R (nI k) wet Q n b (f_meetIn m law k &&& wet) (f_free m k &&& (wet ^^^ (-1 : Int32))) (nI i)) (fun i b => TsF V1 t b ∧ ∀ S, S < i → b (t + 10) S = eno (A0 S)) 256 ?_ ?_ 256 0 V2 (Nat.zero_add _) ⟨f2, fun S hS => absurd hS (by omega)⟩⟩
    · intro n b hI
      obtain ⟨i1, i2⟩ := hI
      show wX6_saved_48 t sh R (nI k) wet Q (n + 1) b (f_meetIn m law k &&& wet) (f_free m k &&& (wet ^^^ (-1 : Int32))) (nI 256)
      rw [wX6_saved_48]
      refine br_t (by decide) ?_
      refine ⟨_, vloop (fun n (b : Nat → Nat → Int32) q => wX6_saved_82 t sh R (nI k) wet Q n b (f_meetIn m law k &&& wet) (f_free m k &&& (wet ^^^ (-1 : Int32))) (nI q)) (fun q b => TsF V1 t b ∧ ∃ A, Tab b t A ∧ (∀ S, S < 256 → leO (A S) 0 q) ∧ fo (Aq (savAct m law k wet) (savFit m k wet)) (8 - q) q A = fo (Aq (savAct m law k wet) (savFit m k wet)) 8 0 A0) 8 ?_ ?_ 8 0 b (Nat.zero_add _) ⟨i1, A0, i2, fun S _ v hv => ?_, rfl⟩⟩
      · intro n b hI
        obtain ⟨j1, A, j2, j3, j4⟩ := hI
        rw [fo_end] at j4
        show wX6_saved_82 t sh R (nI k) wet Q (n + 1) b (f_meetIn m law k &&& wet) (f_free m k &&& (wet ^^^ (-1 : Int32))) (nI 8)
        rw [wX6_saved_82]
        refine br_t (by decide) ?_
        have hq : ∀ V', TsF V1 t V' → Q (nI (fo (mxS A) 256 0 0)) V' := fun V' f => by
          have := hq V' f
          unfold f_saved at this
          rw [sv_eq, ← j4] at this
          exact this
        refine ⟨_, vloop (fun n (r : Nat) i => wX6_saved_239 t sh R (nI k) wet Q n b (nI r) (nI i)) (fun i r => r ≤ 8 ∧ fo (mxS A) (256 - i) i r = fo (mxS A) 256 0 0) 256 ?_ ?_ 256 0 (0 : Nat) (Nat.zero_add _) ⟨by omega, rfl⟩⟩
        · intro n r hI
          obtain ⟨l1, l2⟩ := hI
          rw [fo_end] at l2
          show wX6_saved_239 t sh R (nI k) wet Q (n + 1) b (nI r) (nI 256)
          rw [wX6_saved_239, l2]
          exact br_t (by decide) (hq b j1)
        · intro n r i hi hI hk3
          obtain ⟨l1, l2⟩ := hI
          rw [fo_pop hi] at l2
          show wX6_saved_239 t sh R (nI k) wet Q (n + 1) b (nI r) (nI i)
          rw [wX6_saved_239]
          refine br_f (nI_ge hi (by decide)) ⟨vp_in_nI hi (by decide), ?_⟩
          rw [nI_clamp (by omega), j2 i hi]
          have hj3 := j3 i hi
          unfold mxS at l2
          cases hA : A i with
          | none =>
            rw [hA] at l2
            refine br_f ?_ (nm_r (nI_1 i) (hk3 r ⟨l1, l2⟩))
            show ¬ nI r ≤ (-1 : Int32)
            rw [Int32.not_le]
            have h1 := nI_nlm1 (k := r) (by omega)
            have h2 := nI_nm1 (k := r) (by omega)
            exact Int32.lt_of_le_of_ne (Int32.not_lt.1 h1) (Ne.symm h2)
          | some v =>
            rw [hA] at l2
            have hv := hj3 v hA
            refine s6_greater (by omega) (by omega) ?_
            have e : (if r < v then v else r) = max r v := by
              split
              · rw [Nat.max_eq_right (by omega)]
              · rw [Nat.max_eq_left (by omega)]
            rw [e]
            exact nm_r (nI_1 i) (hk3 _ ⟨by omega, l2⟩)
      · intro n b q hq8 hI hk3
        obtain ⟨j1, A, j2, j3, j4⟩ := hI
        rw [fo_pop hq8] at j4
        have er : b (t + 1) = m := by rw [j1.row, hm]
        show wX6_saved_82 t sh R (nI k) wet Q (n + 1) b (f_meetIn m law k &&& wet) (f_free m k &&& (wet ^^^ (-1 : Int32))) (nI q)
        rw [wX6_saved_82]
        refine br_f (nI_ge hq8 (by decide)) (s6_isOf (p_bn ?_))
        have hact : isOf (f_meetIn m law k &&& wet) (nI q) ↔ savAct m law k wet q = true := by
          unfold savAct
          rw [isOf_and, meet_bit hq8, decide_eq_true_iff]
          exact And.comm
        have hle := Aq_le (act := savAct m law k wet) (fit := savFit m k wet) (q := q) j3
        split
        · next z =>
          have za := hact.1 z
          have wd := (of_decide_eq_true za).2
          obtain ⟨gb, ge⟩ := would_g hR hk8 hq8 wd
          have g8 := hR.G8
          refine s6_bookedIn hk8 hq8 ?_
          rw [er, ge]
          refine s6_ofGuest (w := 1) (by omega) (by decide) (s6_busyOf (by rw [er]; exact hR) ?_)
          rw [er]
          refine nm_e (s6_stage (A := A) (fit := savFit m k wet q) j2 (fun S hS v hv => by have := j3 S hS v hv; omega) (fun j hj => ?_) (fun c hc hT => ?_))
          · rw [isOf_and, isOf_and, isOf_and, isOf_not, isOf_not]
            unfold savFit
            rw [decide_eq_true_iff, ge, show 43 + 3 * gOf m k q + 1 = 44 + 3 * gOf m k q by omega]
            exact ⟨fun z => ⟨z.1.1.1, z.1.2, z.2, z.1.1.2⟩, fun z => ⟨⟨⟨z.1, z.2.2.2⟩, z.2.1⟩, z.2.2.1⟩⟩
          · rw [nI_1]
            have ea : Aq (savAct m law k wet) (savFit m k wet) q A = stA A (savFit m k wet q) := by
              unfold Aq
              rw [if_pos za]
            rw [ea] at j4 hle
            exact hk3 c ⟨j1.set10 hc, _, hT, hle, j4⟩
        · next z =>
          have za : ¬ savAct m law k wet q = true := fun z2 => z (hact.2 z2)
          have ea : Aq (savAct m law k wet) (savFit m k wet) q A = A := by
            unfold Aq
            rw [if_neg za]
          rw [ea] at j4 hle
          exact nm_r (nI_1 q) (hk3 b ⟨j1, A, j2, hle, j4⟩)
      · unfold A0 at hv
        split at hv
        · cases hv; omega
        · cases hv
    · intro n b i hi hI hk2
      obtain ⟨i1, i2⟩ := hI
      show wX6_saved_48 t sh R (nI k) wet Q (n + 1) b (f_meetIn m law k &&& wet) (f_free m k &&& (wet ^^^ (-1 : Int32))) (nI i)
      rw [wX6_saved_48]
      refine br_f (nI_ge hi (by decide)) ?_
      have k3 : ∀ s, s = eno (A0 i) → wX6_saved_72 t sh R (nI k) wet Q (fun V x3 x4 x5 => wX6_saved_48 t sh R (nI k) wet Q n V x3 x4 x5) b (f_meetIn m law k &&& wet) (f_free m k &&& (wet ^^^ (-1 : Int32))) (nI i) (nI i) s := fun s hs => by
        unfold wX6_saved_72
        rw [nI_clamp (by omega)]
        refine ⟨vp_in_nI hi (by decide), nm_r (nI_1 i) (hk2 _ ⟨i1.set10 (fun b' hb' => vset_n _ _ _ hb'), fun S hS => ?_⟩)⟩
        rw [vset_at]
        split
        · next z => rw [z, hs]
        · next z => exact i2 S (by omega)
      refine ⟨fun z => k3 _ ?_, fun z => k3 _ ?_⟩
      · unfold A0
        rw [if_neg (fun z2 => z (by rw [z2]; rfl))]
        rfl
      · unfold A0
        rw [if_pos (nI_inj (by omega) (by decide) z)]
        rfl
  · rw [b2i_f c]
    rw [if_neg c] at hq
    refine ⟨fun z => absurd rfl z, fun _ => ?_⟩
    unfold wX6_saved_14
    rw [vt0]
    exact br_f (by decide) (hq _)
end ST
