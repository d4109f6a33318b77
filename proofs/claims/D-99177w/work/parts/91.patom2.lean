/-! ===== PURE: the component reads a condition ===== -/
theorem Den.imp {s : List jH} {S : Nat → Prop} {φ ψ : List jC → Prop} (h : Den s S φ) (w : ∀ g, φ g → ψ g) : Den s S ψ := fun sh' k hC V R => w _ (h sh' k hC V R)
section AB
variable {sh : List jH} {V : Nat → Nat → Int32} {R : Nat → Nat → Option Nat} {x a b d L c n D n9 : Nat} {T : Nat → Nat} {X : String → List jH → (Nat → Nat → Int32) → (Nat → Nat → Option Nat) → Prop} {P : Nat → Pz Cd} {REC : List jH → (Nat → Nat → Int32) → (Nat → Nat → Option Nat) → Nat → Nat → (Option Nat → List jH → (Nat → Nat → Int32) → (Nat → Nat → Option Nat) → Prop) → (String → List jH → (Nat → Nat → Int32) → (Nat → Nat → Option Nat) → Prop) → Prop}
theorem s3_deeper {Q : List jH → (Nat → Nat → Int32) → (Nat → Nat → Option Nat) → Prop} (hX : jReg shX1 sh x) (hd : d + n9 = 6) (hc : 1 ≤ c) (hn : 6 ≤ n) (hq : if n9 = 0 then bC X sh V R (x + 109) b else Q sh (cx V (x + 109) a b (d + 1)) R) : wX3_goesDeeper (x + 109) sh (cx V (x + 109) a b d) R c n Q X := by
  unfold wX3_goesDeeper
  rw [cx_d]
  refine ⟨fun z => ?_, fun z => ?_⟩
  · rw [if_neg (fun w => z (by rw [show d = 6 by omega]; rfl))] at hq
    refine nm_r (nI_1 d) ?_
    rw [cxs_d]
    exact hq
  · have : d = 6 := (nI_eq (b := 6) (by omega) (by decide)).mp z
    rw [if_pos (by omega)] at hq
    exact ⟨1, 6, 0, 0, by omega, by omega, s3_wrong (reg3 hX) (by omega) (by omega) (fun sh' q fs h1 h2 h3 => ⟨(h1.reg (reg3 hX)), q, rfl, _, mk_atF h2, h3, hq sh' _ _ h1⟩)⟩
theorem s3_up {P : (Nat → Nat → Int32) → Prop} {r : Nat} (hq : P (cx V r a b d)) : wX3_comesUp r (cx V r a b (d + 1)) P := by
  unfold wX3_comesUp
  rw [cx_d]
  refine nm_r (nI_pred d) ?_
  rw [cxs_d]
  exact hq
/-- what is wrong in the component is thrown -/
theorem s1_wrongT {r0 : Nat} (hX : jReg shX1 sh x) (hc : 1 ≤ c) (hn : 6 ≤ n) (hq : bC X sh V R (x + 109) b) {a2 d2 : Nat} : ∃ c1 n1 c2 n2 : Nat, c1 + c2 ≤ c ∧ n1 + n2 ≤ n ∧ wX3_wrong (x + 109) sh (cx V (x + 109) a2 b d2) R c1 n1 (fun r37 sh37 V37 R37 => (jReg shX1 sh37 x ∧ (∃ b40_7, r37 = some b40_7 ∧ (∃ fs40 : List Value, (mk sh37 V37 R37)[b40_7]? = some (.inr (6, fs40)) ∧ jn ≤ b40_7 ∧ X "VisitingHours$Wrong" sh37 V37 R37)))) :=
  ⟨1, 6, 0, 0, by omega, by omega, s3_wrong (reg3 hX) (by omega) (by omega) (fun sh' q fs h1 h2 h3 => ⟨h1.reg hX, q, rfl, _, mk_atF h2, h3, hq sh' _ _ h1⟩)⟩
theorem s1_atomB (hT : TxtC V (x + 109) T L) (hd : d + n9 = 6) (hfw : ∀ a, a ≤ L → fw L a (P a)) (hREC : 0 < n9 → CSpec x V R T L X (d + 1) P 100 1000 0 D REC) : CSpec x V R T L X d (pAtB n9 P T L) 100 1000 0 (D + 2) (wX1_atom_B x REC) := by
  intro sh a b c n Q hX hC ha hc hn hq
  have hj := reg_l1 hX
  have hL := hT.1
  have hsg := sk_ge (T := T) (L := L) (a := a)
  have hs := sk_le (T := T) ha
  have hwl := wl_le (T := T) ha
  unfold wX1_atom_B
  refine s3_sign (by decide) hT ha ?_
  unfold pAtB at hq hc hn
  by_cases z0 : isS 40 T L a = true
  · rw [if_pos z0] at hq hc hn ⊢
    have hlt := (isS_iff.mp z0).1
    refine br_f (by decide) ?_
    by_cases h9 : n9 = 0
    · rw [if_pos h9] at hq hc hn
      have hc2 : 100 + 800 * (L - a) ≤ c := hc
      have hn2 : 1000 + 4000 * (L - a) + 0 * 0 ≤ n := hn
      exact ⟨c, n, 0, 0, by omega, by omega, s3_deeper hX hd (by omega) (by omega) (by rw [if_pos h9]; exact hq)⟩
    · rw [if_neg h9] at hq hc hn
      have hcf := pSome_fw (T := T) hfw (by omega : sk T L a + 1 ≤ L)
      have hcs := s1_cond hT hfw (hREC (by omega))
      refine ⟨1, 6, c - 1, n - 6, by omega, by omega, s3_deeper hX hd (by omega) (by omega) ?_⟩
      rw [if_neg h9]
      obtain ⟨c1, hc1⟩ : ∃ c1, c1 = 130 + 800 * (en L (pSome P T L (sk T L a + 1)) - (sk T L a + 1)) := ⟨_, rfl⟩
      obtain ⟨n1, hn1⟩ : ∃ n1, n1 = 1400 + 4000 * (en L (pSome P T L (sk T L a + 1)) - (sk T L a + 1)) + 10 * twl T L (pSome P T L (sk T L a + 1)) := ⟨_, rfl⟩
      rcases hr : pSome P T L (sk T L a + 1) with bb | ⟨cc, e⟩
      · rw [hr] at hq hc hn hc1 hn1
        have hc2 : 100 + 800 * (L - a) ≤ c := hc
        have hn2 : 1000 + 4000 * (L - a) + 0 * 0 ≤ n := hn
        have hc3 : c1 = 130 + 800 * (L - (sk T L a + 1)) := hc1
        have hn3 : n1 = 1400 + 4000 * (L - (sk T L a + 1)) + 10 * 0 := hn1
        refine ⟨hX, c1, n1, 0, 0, by omega, by omega, hcs sh (sk T L a + 1) _ c1 n1 _ hX hC (by omega) (by rw [hr]; exact Nat.le_of_eq hc3.symm) (by rw [hr]; exact Nat.le_of_eq hn3.symm) ?_⟩
        rw [hr]
        exact hq
      · rw [hr] at hq hc hn hc1 hn1 hcf
        have he : sk T L a + 1 < e ∧ e ≤ L := hcf
        have hse := sk_ge (T := T) (L := L) (a := e)
        have hsel := sk_le (T := T) he.2
        have hwe := wl_le (T := T) he.2
        have hq1 : pO (if isS 41 T L e = true then (.inr (cc, sk T L e + 1) : Pz Cd) else .inl (sk T L e)) (fun b => bC X sh V R (x + 109) b) (fun y e => ∀ sh' k bg, Ext sh sh' → sh.length ≤ k → ObjS sh' k → Den sh' (fun j => sh.length ≤ j) (CondF k (D + 2) y) → Q (some k) sh' (cx V (x + 109) e bg d) R) := hq
        have hc4 : 100 + 800 * (en L (if isS 41 T L e = true then (.inr (cc, sk T L e + 1) : Pz Cd) else .inl (sk T L e)) - a) ≤ c := hc
        have hn4 : 1000 + 4000 * (en L (if isS 41 T L e = true then (.inr (cc, sk T L e + 1) : Pz Cd) else .inl (sk T L e)) - a) + 0 * twl T L (if isS 41 T L e = true then (.inr (cc, sk T L e + 1) : Pz Cd) else .inl (sk T L e)) ≤ n := hn
        clear hq hc hn
        have hc3 : c1 = 130 + 800 * (e - (sk T L a + 1)) := hc1
        have hn3 : n1 = 1400 + 4000 * (e - (sk T L a + 1)) + 10 * wl T L e := hn1
        have bud : c1 + 1 ≤ c - 1 ∧ n1 + 6 ≤ n - 6 := by
          by_cases z : isS 41 T L e = true
          · rw [if_pos z] at hc4 hn4
            have w0 := twl_0 z (by decide)
            have h1 : 100 + 800 * (sk T L e + 1 - a) ≤ c := hc4
            have h2 : 1000 + 4000 * (sk T L e + 1 - a) + 0 * wl T L (sk T L e + 1) ≤ n := hn4
            omega
          · rw [if_neg z] at hc4 hn4
            have h1 : 100 + 800 * (L - a) ≤ c := hc4
            have h2 : 1000 + 4000 * (L - a) + 0 * 0 ≤ n := hn4
            omega
        refine ⟨hX, c1, n1, c - 1 - c1, n - 6 - n1, by omega, by omega, hcs sh (sk T L a + 1) _ c1 n1 _ hX hC (by omega) (by rw [hr]; exact Nat.le_of_eq hc3.symm) (by rw [hr]; exact Nat.le_of_eq hn3.symm) ?_⟩
        rw [hr]
        intro s1 k1 bg1 e1 hk1 ob1 dn1
        refine ⟨e1.reg hX, s3_up ?_⟩
        show wX3_sign (x + 109) (cx V (x + 109) e bg1 d) _ _
        refine s3_sign (by decide) hT he.2 ?_
        split
        · next z =>
          rw [if_pos z] at hq1
          exact ⟨fun _ => hq1 s1 k1 _ e1 hk1 ob1 dn1, fun w => absurd w (by decide)⟩
        · next z =>
          rw [if_neg z] at hq1
          exact ⟨fun w => absurd rfl w, fun _ => s1_wrongT (r0 := 0) (e1.reg hX) (by omega) (by omega) (bC.ext (show bC X sh V R (x + 109) (sk T L e) from hq1) e1)⟩
  · rw [if_neg z0] at hq hc hn ⊢
    refine br_t rfl ?_
    have nb : ∀ {r : Pz Cd}, 100 + 800 * (en L r - a) ≤ c → 100 ≤ c := fun h => by omega
    have wlb : 64 + 5 * wl T L a ≤ 1000 + 4000 * wl T L a := by omega
    by_cases z1 : isW (tw 14) T L a = true
    · rw [if_pos z1] at hq hc hn
      have hw3 : wl T L a = 3 := isW_wl z1
      have haf := afW_le (w := tw 14) (T := T) ha
      have hag : sk T L a + 3 = afW (tw 14) T L a := (if_pos z1).symm
      have hpas : ∀ (c0 n0 : Nat) (QQ : Int32 → List jH → (Nat → Nat → Int32) → (Nat → Nat → Option Nat) → Prop), 10 ≤ c0 → 79 ≤ n0 → (∀ s1, Ext sh s1 → QQ 1 s1 (cx V (x + 109) (afW (tw 14) T L a) (sk T L a) d) R) → wX3_passes (x + 109) sh (cx V (x + 109) (sk T L a) (sk T L a) d) R c0 n0 28 QQ := by
        intro c0 n0 QQ h1 h2 h3
        refine s3_passes (w := tw 14) (by decide) hC (fun sh' h V R => str_14 h.g) (reg3 hX) hT hs h1 (by rw [wl_sk, hw3]; exact h2) (fun s1 e1 => ?_)
        rw [isW_sk, if_pos z1, afW_sk, sk_sk]
        exact h3 s1 e1
      by_cases h9 : n9 = 0
      · rw [if_pos h9] at hq hc hn
        have hc2 : 100 + 800 * (L - a) ≤ c := hc
        have hn2 : 1000 + 4000 * (L - a) + 0 * 0 ≤ n := hn
        exact ⟨10, 79, c - 10, n - 79, by omega, by omega, hpas _ _ _ (by omega) (by omega) (fun s1 e1 => ⟨e1.reg hX, fun w => absurd w (by decide), fun _ => ⟨c - 10, n - 79, 0, 0, by omega, by omega, s3_deeper (e1.reg hX) hd (by omega) (by omega) (by rw [if_pos h9]; exact bC.ext (show bC X sh V R (x + 109) (sk T L a) from hq) e1)⟩⟩)⟩
      · rw [if_neg h9] at hq hc hn
        have hRs := hREC (by omega)
        have hrf := hfw _ haf
        rcases hr : P (afW (tw 14) T L a) with bb | ⟨cc, e⟩
        · rw [hr] at hq hc hn
          have hc2 : 100 + 800 * (L - a) ≤ c := hc
          have hn2 : 1000 + 4000 * (L - a) + 0 * 0 ≤ n := hn
          refine ⟨10, 79, c - 10, n - 79, by omega, by omega, hpas _ _ _ (by omega) (by omega) (fun s1 e1 => ⟨e1.reg hX, fun w => absurd w (by decide), fun _ => ⟨1, 6, c - 11, n - 85, by omega, by omega, s3_deeper (e1.reg hX) hd (by omega) (by omega) ?_⟩⟩)⟩
          rw [if_neg h9]
          refine ⟨e1.reg hX, c - 11, n - 85, 0, 0, by omega, by omega, hRs s1 (afW (tw 14) T L a) _ (c - 11) (n - 85) _ (e1.reg hX) (e1.con hC) haf ?_ ?_ ?_⟩
          · rw [hr]; show 100 + 800 * (L - afW (tw 14) T L a) ≤ c - 11; omega
          · rw [hr]; show 1000 + 4000 * (L - afW (tw 14) T L a) + 0 * 0 ≤ n - 85; omega
          · rw [hr]; exact bC.ext (show bC X sh V R (x + 109) bb from hq) e1
        · rw [hr] at hq hc hn hrf
          have he : afW (tw 14) T L a < e ∧ e ≤ L := hrf
          have hc2 : 100 + 800 * (e - a) ≤ c := hc
          have hn2 : 1000 + 4000 * (e - a) + 0 * wl T L e ≤ n := hn
          refine ⟨10, 79, c - 10, n - 79, by omega, by omega, hpas _ _ _ (by omega) (by omega) (fun s1 e1 => ⟨e1.reg hX, fun w => absurd w (by decide), fun _ => ⟨1, 6, c - 11, n - 85, by omega, by omega, s3_deeper (e1.reg hX) hd (by omega) (by omega) ?_⟩⟩)⟩
          rw [if_neg h9]
          refine ⟨e1.reg hX, c - 12, n - 86, 1, 1, by omega, by omega, hRs s1 (afW (tw 14) T L a) _ (c - 12) (n - 86) _ (e1.reg hX) (e1.con hC) haf ?_ ?_ ?_⟩
          · rw [hr]; show 100 + 800 * (e - afW (tw 14) T L a) ≤ c - 12; omega
          · rw [hr]; show 1000 + 4000 * (e - afW (tw 14) T L a) + 0 * wl T L e ≤ n - 86; omega
          · rw [hr]
            intro s2 k2 bg2 e2 hk2 ob2 dn2
            have e12 := e1.trans e2
            have hl := e12.len
            refine ⟨e12.reg hX, s3_up ⟨0, 0, rfl, rfl, nm_e (nm_e ⟨k2, rfl, ?_⟩)⟩⟩
            have d2 := (dn2.cut (S := fun j => s1.length ≤ j ∧ j < s2.length) (fun j z1 z2 => ⟨z1, z2⟩)).ext (Ext.refl.push (c := jF (.inr (10, [.null]))))
            refine putF at_push e12.push hl (by omega) (Nat.le_of_ble_eq_true rfl) (fun s3 e3 a3 f3 l3 => ⟨s3, _, _, rfl, e3.reg hX, ?_⟩)
            have hl1 := e1.len
            have hqq : ∀ sh' k bg, Ext sh sh' → sh.length ≤ k → ObjS sh' k → Den sh' (fun j => sh.length ≤ j) (CondF k (D + 2) (fun F => !cc F)) → Q (some k) sh' (cx V (x + 109) e bg d) R := hq
            exact hqq s3 s2.length _ e3 hl ⟨10, _, by omega, Or.inl ⟨_, a3⟩, rfl, nw2818⟩ ((den_not (D := D) hj hl a3 (d2.keep (fun j t z ht => f3 j t (by omega) ht)) (fun j z => by omega) (fun F => rfl)).imp (fun g h => h.more (by omega)))
    · rw [if_neg z1] at hq hc hn
      have hwp := wl_plain (T := T) ha
      have hpf := pPlain_fw (T := T) ha
      have henp := pO_en (pO_mono hpf (fun _ z => z) (fun _ _ z => ⟨Nat.le_of_lt z.1, z.2⟩)) ha
      have hn0 : 1000 + 4000 * (en L (pPlain T L a) - a) ≤ n := by
        have h9 : 1000 + 4000 * (en L (pPlain T L a) - a) + 0 * twl T L (pPlain T L a) ≤ n := hn
        omega
      -- the words that are not there
      refine ⟨10, 64 + 5 * wl T L a, c - 10, n - (64 + 5 * wl T L a), by omega, by omega, s3_passes (w := tw 14) (by decide) hC (fun sh' h V R => str_14 h.g) (reg3 hX) hT hs (by omega) (by rw [wl_sk]; exact Nat.le_refl _) (fun s1 e1 => ?_)⟩
      rw [isW_sk, if_neg z1, sk_sk]
      refine ⟨e1.reg hX, fun _ => ?_, fun w => absurd rfl w⟩
      refine ⟨10, 64 + 5 * wl T L a, c - 20, n - 2 * (64 + 5 * wl T L a), by omega, by omega, s3_passes (w := tw 15) (by decide) (e1.con hC) (fun sh' h V R => str_15 h.g) (e1.reg (reg3 hX)) hT hs (by omega) (by rw [wl_sk]; exact Nat.le_refl _) (fun s2 e2 => ?_)⟩
      have e12 := e1.trans e2
      rw [isW_sk, sk_sk, afW_sk]
      unfold pPlain at hq hc hn0
      by_cases z2 : isW (tw 15) T L a = true
      · rw [if_pos z2] at hq hc hn0 ⊢
        refine ⟨e12.reg hX, fun w => absurd w (by decide), fun _ => ⟨c - 21, n - 2 * (64 + 5 * wl T L a) - 1, by omega, by omega, nm_e (nm_e ⟨jz1, ?_⟩)⟩⟩
        have hl := e12.len
        refine putF at_push e12.push hl (by omega) (Nat.le_of_ble_eq_true rfl) (fun s3 e3 a3 f3 l3 => ⟨s3, _, _, rfl, e3.reg hX, ?_⟩)
        have hqq : ∀ sh' k bg, Ext sh sh' → sh.length ≤ k → ObjS sh' k → Den sh' (fun j => sh.length ≤ j) (CondF k (D + 2) (fun F => decide (¬ F 7 = 0))) → Q (some k) sh' (cx V (x + 109) (afW (tw 15) T L a) bg d) R := hq
        exact hqq s3 s2.length _ e3 hl ⟨11, _, by omega, Or.inl ⟨_, a3⟩, rfl, nw2819⟩ ((den_tag (i := 7) hj hl a3 (Or.inl ⟨rfl, rfl⟩) (fun F => rfl)).imp (fun g h => h.more (by omega)))
      rw [if_neg z2] at hq hc hn0 ⊢
      refine ⟨e12.reg hX, fun _ => ?_, fun w => absurd rfl w⟩
      refine ⟨10, 64 + 5 * wl T L a, c - 30, n - 3 * (64 + 5 * wl T L a), by omega, by omega, s3_passes (w := tw 16) (by decide) (e12.con hC) (fun sh' h V R => str_16 h.g) (e12.reg (reg3 hX)) hT hs (by omega) (by rw [wl_sk]; exact Nat.le_refl _) (fun s3 e3 => ?_)⟩
      have e13 := e12.trans e3
      rw [isW_sk, sk_sk, afW_sk]
      by_cases z3 : isW (tw 16) T L a = true
      · rw [if_pos z3] at hq hc hn0 ⊢
        refine ⟨e13.reg hX, fun w => absurd w (by decide), fun _ => ⟨c - 31, n - 3 * (64 + 5 * wl T L a) - 1, by omega, by omega, nm_e (nm_e ⟨jz0, ?_⟩)⟩⟩
        have hl := e13.len
        refine putF at_push e13.push hl (by omega) (Nat.le_of_ble_eq_true rfl) (fun s4 e4 a4 f4 l4 => ⟨s4, _, _, rfl, e4.reg hX, ?_⟩)
        have hqq : ∀ sh' k bg, Ext sh sh' → sh.length ≤ k → ObjS sh' k → Den sh' (fun j => sh.length ≤ j) (CondF k (D + 2) (fun F => decide (¬ F 8 = 0))) → Q (some k) sh' (cx V (x + 109) (afW (tw 16) T L a) bg d) R := hq
        exact hqq s4 s3.length _ e4 hl ⟨11, _, by omega, Or.inl ⟨_, a4⟩, rfl, nw2819⟩ ((den_tag (i := 8) hj hl a4 (Or.inr ⟨rfl, rfl⟩) (fun F => rfl)).imp (fun g h => h.more (by omega)))
      rw [if_neg z3] at hq hc hn0 ⊢
      refine ⟨e13.reg hX, fun _ => ?_, fun w => absurd rfl w⟩
      have hEq : en L (pPlain T L a) = en L (pB (pSum T L a) (fun x a1 => if isS 60 T L a1 = true then pB (pSum T L (sk T L a1 + 1)) (fun y a2 => (.inr (fun F => decide (x F < y F), a2) : Pz Cd)) else if isS 62 T L a1 = true then pB (pSum T L (sk T L a1 + 1)) (fun y a2 => .inr (fun F => decide (y F < x F), a2)) else .inl (sk T L a1))) := by
        unfold pPlain
        rw [if_neg z2, if_neg z3]
      have hcP : 100 + 800 * (en L (pPlain T L a) - a) ≤ c := by rw [hEq]; exact hc
      have hnP : 1000 + 4000 * (en L (pPlain T L a) - a) ≤ n := by rw [hEq]; exact hn0
      clear hc hn hn0
      have hsf := pSum_fw (T := T) ha
      have hsum : pSum T L (sk T L a) = pSum T L a := by unfold pSum pPart pNum pFact; simp only [sk_sk, isW_sk]
      obtain ⟨c4, hc4⟩ : ∃ c4, c4 = 30 + 800 * (en L (pSum T L a) - a) := ⟨_, rfl⟩
      obtain ⟨n4, hn4⟩ : ∃ n4, n4 = 200 + 3000 * (en L (pSum T L a) - a) := ⟨_, rfl⟩
      obtain ⟨n3, hn3⟩ : ∃ n3, n3 = 3 * (64 + 5 * wl T L a) := ⟨_, rfl⟩
      rcases hr : pSum T L a with bb | ⟨y, e⟩
      · rw [hr] at hq hEq hc4 hn4
        have h1 : en L (pPlain T L a) = L := hEq
        have hc5 : c4 = 30 + 800 * (L - a) := hc4
        have hn5 : n4 = 200 + 3000 * (L - a) := hn4
        refine ⟨c4, n4, 0, 0, by omega, by omega, s1_sum (e13.reg hX) (e13.con hC) hT hs ?_ ?_ ?_⟩
        · rw [hsum, hr]; show 30 + 800 * (L - sk T L a) ≤ c4; omega
        · rw [hsum, hr]; show 200 + 3000 * (L - sk T L a) ≤ n4; omega
        · rw [hsum, hr]; exact bC.ext (show bC X sh V R (x + 109) bb from hq) e13
      · rw [hr] at hq hEq hc4 hn4 hsf
        have he : a < e ∧ e ≤ L := hsf
        have hse := sk_ge (T := T) (L := L) (a := e)
        have hsel := sk_le (T := T) he.2
        have hc5 : c4 = 30 + 800 * (e - a) := hc4
        have hn5 : n4 = 200 + 3000 * (e - a) := hn4
        have hq1 : pO (if isS 60 T L e = true then pB (pSum T L (sk T L e + 1)) (fun y2 a2 => (.inr (fun F => decide (y F < y2 F), a2) : Pz Cd)) else if isS 62 T L e = true then pB (pSum T L (sk T L e + 1)) (fun y2 a2 => .inr (fun F => decide (y2 F < y F), a2)) else .inl (sk T L e)) (fun b => bC X sh V R (x + 109) b) (fun y e => ∀ sh' k bg, Ext sh sh' → sh.length ≤ k → ObjS sh' k → Den sh' (fun j => sh.length ≤ j) (CondF k (D + 2) y) → Q (some k) sh' (cx V (x + 109) e bg d) R) := hq
        have hE1 : en L (pPlain T L a) = en L (if isS 60 T L e = true then pB (pSum T L (sk T L e + 1)) (fun y2 a2 => (.inr (fun F => decide (y F < y2 F), a2) : Pz Cd)) else if isS 62 T L e = true then pB (pSum T L (sk T L e + 1)) (fun y2 a2 => .inr (fun F => decide (y2 F < y F), a2)) else .inl (sk T L e)) := hEq
        clear hq hEq
        have hEe : e ≤ en L (pPlain T L a) := by
          have hf2 : sk T L e < L → fw L (sk T L e + 1) (pSum T L (sk T L e + 1)) := fun h => pSum_fw (by omega)
          rw [hE1]
          split
          · next zs =>
            have hlt := (isS_iff.mp zs).1
            have hf3 := hf2 hlt
            rcases hr2 : pSum T L (sk T L e + 1) with bb | ⟨y2, e2⟩
            · show e ≤ L; omega
            · rw [hr2] at hf3
              have h3 : sk T L e + 1 < e2 ∧ e2 ≤ L := hf3
              show e ≤ e2; omega
          split
          · next zs =>
            have hlt := (isS_iff.mp zs).1
            have hf3 := hf2 hlt
            rcases hr2 : pSum T L (sk T L e + 1) with bb | ⟨y2, e2⟩
            · show e ≤ L; omega
            · rw [hr2] at hf3
              have h3 : sk T L e + 1 < e2 ∧ e2 ≤ L := hf3
              show e ≤ e2; omega
          · show e ≤ L; omega
        obtain ⟨c5, hc6⟩ : ∃ c5, c5 = c - 30 - c4 := ⟨_, rfl⟩
        obtain ⟨n5, hn6⟩ : ∃ n5, n5 = n - n3 - n4 := ⟨_, rfl⟩
        refine ⟨c4, n4, c5, n5, by omega, by omega, s1_sum (e13.reg hX) (e13.con hC) hT hs ?_ ?_ ?_⟩
        · rw [hsum, hr]; show 30 + 800 * (e - sk T L a) ≤ c4; omega
        · rw [hsum, hr]; show 200 + 3000 * (e - sk T L a) ≤ n4; omega
        rw [hsum, hr]
        intro s4 k4 bg4 e4 hk4 dn4
        have e14 := e13.trans e4
        have hl := e14.len
        have hl3 := e13.len
        refine ⟨e14.reg hX, ?_⟩
        show wX3_sign (x + 109) (cx V (x + 109) e bg4 d) _ _
        refine s3_sign (by decide) hT he.2 ?_
        by_cases zs : isS 60 T L e = true
        · rw [if_pos zs] at hq1 hE1 ⊢
          refine ⟨fun w => absurd w (by decide), fun _ => ?_⟩
          have hE2 := hE1
          clear hE1
          have hq2 : pO (pB (pSum T L (sk T L e + 1)) (fun y2 a2 => (.inr ((fun F => decide (y F < y2 F)), a2) : Pz Cd))) (fun b => bC X sh V R (x + 109) b) (fun y e => ∀ sh' k bg, Ext sh sh' → sh.length ≤ k → ObjS sh' k → Den sh' (fun j => sh.length ≤ j) (CondF k (D + 2) y) → Q (some k) sh' (cx V (x + 109) e bg d) R) := hq1
          have hlt : sk T L e < L := (isS_iff.mp zs).1
          have hl4 : s4.length + 1 = (s4 ++ [jF (.inr (14, [.null, .null]))]).length := by rw [List.length_append]; rfl
          have e5 : Ext sh (s4 ++ [jF (.inr (14, [.null, .null]))]) := e14.push
          refine ⟨c5 - 1, n5 - 2, by omega, by omega, nm_e (nm_e ⟨c5 - 1, n5 - 2, 0, 0, by omega, by omega, ?_⟩)⟩
          have hb2 : 30 + 800 * (en L (pSum T L (sk T L e + 1)) - (sk T L e + 1)) ≤ c5 - 1 ∧ 200 + 3000 * (en L (pSum T L (sk T L e + 1)) - (sk T L e + 1)) ≤ n5 - 2 := by
            have hf2 := pSum_fw (T := T) (L := L) (a := sk T L e + 1) (by omega)
            rcases hr2 : pSum T L (sk T L e + 1) with bb | ⟨y2, e2⟩
            · rw [hr2] at hE2
              have h1 : en L (pPlain T L a) = L := hE2
              show 30 + 800 * (L - (sk T L e + 1)) ≤ c5 - 1 ∧ 200 + 3000 * (L - (sk T L e + 1)) ≤ n5 - 2
              omega
            · rw [hr2] at hE2 hf2
              have h1 : en L (pPlain T L a) = e2 := hE2
              have h3 : sk T L e + 1 < e2 ∧ e2 ≤ L := hf2
              show 30 + 800 * (e2 - (sk T L e + 1)) ≤ c5 - 1 ∧ 200 + 3000 * (e2 - (sk T L e + 1)) ≤ n5 - 2
              omega
          refine s1_sum (e5.reg hX) (e5.con hC) hT (by omega) hb2.1 hb2.2 (pO_mono (pO_B hq2) (fun b h => bC.ext h e5) (fun y2 e2 h => fun s6 k6 bg6 e6 hk6 dn6 => ⟨(e5.trans e6).reg hX, ⟨k4, rfl, k6, rfl, ?_⟩⟩))
          have e56 := e5.trans e6
          have hcell := e6 _ _ (at_push (a := s4) (c := jF (.inr (14, [.null, .null]))))
          refine putF hcell e56 hl (by omega) (Nat.le_of_ble_eq_true rfl) (fun s7 e7 a7 f7 l7 => ?_)
          refine putF a7 e7 hl (by omega) (Nat.le_of_ble_eq_true rfl) (fun s8 e8 a8 f8 l8 => ⟨s8, _, _, rfl, e8.reg hX, ?_⟩)
          have d4 := ((((dn4.cut (S := fun j => s3.length ≤ j ∧ j < s4.length) (fun j z1 z2 => ⟨z1, z2⟩)).ext ((Ext.refl.push (c := jF (.inr (14, [.null, .null])))).trans e6)).keep (fun j t z ht => f7 j t (by omega) ht))).keep (fun j t z ht => f8 j t (by omega) ht)
          have d6 := (((dn6.wide (S2 := fun j => s4.length + 1 ≤ j) (fun j z => by rw [hl4]; exact z)).keep (fun j t z ht => f7 j t (by omega) ht))).keep (fun j t z ht => f8 j t (by omega) ht)
          have hqq : ∀ sh' k bg, Ext sh sh' → sh.length ≤ k → ObjS sh' k → Den sh' (fun j => sh.length ≤ j) (CondF k (D + 2) (fun F => decide (y F < y2 F))) → Q (some k) sh' (cx V (x + 109) e2 bg d) R := h
          exact hqq s8 s4.length _ e8 hl ⟨14, _, by omega, Or.inl ⟨_, a8⟩, rfl, nw2822⟩ ((den_less (Sa := (fun j => s3.length ≤ j ∧ j < s4.length)) (Sb := (fun j => s4.length + 1 ≤ j)) hj hl a8 d4 d6 (fun j z => by omega) (fun j z => by omega) (fun F => rfl)).imp (fun g h => h.more (by omega)))
        rw [if_neg zs] at hq1 hE1 ⊢
        refine ⟨fun _ => s3_sign (by decide) hT hsel ?_, fun w => absurd rfl w⟩
        rw [isS_sk, sk_sk]
        by_cases zs2 : isS 62 T L e = true
        · rw [if_pos zs2] at hq1 hE1 ⊢
          have zs := zs2
          refine ⟨fun _ => ?_, fun w => absurd w (by decide)⟩
          have hE2 := hE1
          clear hE1
          have hq2 : pO (pB (pSum T L (sk T L e + 1)) (fun y2 a2 => (.inr ((fun F => decide (y2 F < y F)), a2) : Pz Cd))) (fun b => bC X sh V R (x + 109) b) (fun y e => ∀ sh' k bg, Ext sh sh' → sh.length ≤ k → ObjS sh' k → Den sh' (fun j => sh.length ≤ j) (CondF k (D + 2) y) → Q (some k) sh' (cx V (x + 109) e bg d) R) := hq1
          have hlt : sk T L e < L := (isS_iff.mp zs).1
          have hl4 : s4.length + 1 = (s4 ++ [jF (.inr (14, [.null, .null]))]).length := by rw [List.length_append]; rfl
          have e5 : Ext sh (s4 ++ [jF (.inr (14, [.null, .null]))]) := e14.push
          refine ⟨c5 - 1, n5 - 2, by omega, by omega, nm_e (nm_e ⟨c5 - 1, n5 - 2, 0, 0, by omega, by omega, ?_⟩)⟩
          have hb2 : 30 + 800 * (en L (pSum T L (sk T L e + 1)) - (sk T L e + 1)) ≤ c5 - 1 ∧ 200 + 3000 * (en L (pSum T L (sk T L e + 1)) - (sk T L e + 1)) ≤ n5 - 2 := by
            have hf2 := pSum_fw (T := T) (L := L) (a := sk T L e + 1) (by omega)
            rcases hr2 : pSum T L (sk T L e + 1) with bb | ⟨y2, e2⟩
            · rw [hr2] at hE2
              have h1 : en L (pPlain T L a) = L := hE2
              show 30 + 800 * (L - (sk T L e + 1)) ≤ c5 - 1 ∧ 200 + 3000 * (L - (sk T L e + 1)) ≤ n5 - 2
              omega
            · rw [hr2] at hE2 hf2
              have h1 : en L (pPlain T L a) = e2 := hE2
              have h3 : sk T L e + 1 < e2 ∧ e2 ≤ L := hf2
              show 30 + 800 * (e2 - (sk T L e + 1)) ≤ c5 - 1 ∧ 200 + 3000 * (e2 - (sk T L e + 1)) ≤ n5 - 2
              omega
          refine s1_sum (e5.reg hX) (e5.con hC) hT (by omega) hb2.1 hb2.2 (pO_mono (pO_B hq2) (fun b h => bC.ext h e5) (fun y2 e2 h => fun s6 k6 bg6 e6 hk6 dn6 => ⟨(e5.trans e6).reg hX, ⟨k6, rfl, k4, rfl, ?_⟩⟩))
          have e56 := e5.trans e6
          have hcell := e6 _ _ (at_push (a := s4) (c := jF (.inr (14, [.null, .null]))))
          refine putF hcell e56 hl (by omega) (Nat.le_of_ble_eq_true rfl) (fun s7 e7 a7 f7 l7 => ?_)
          refine putF a7 e7 hl (by omega) (Nat.le_of_ble_eq_true rfl) (fun s8 e8 a8 f8 l8 => ⟨s8, _, _, rfl, e8.reg hX, ?_⟩)
          have d4 := ((((dn4.cut (S := fun j => s3.length ≤ j ∧ j < s4.length) (fun j z1 z2 => ⟨z1, z2⟩)).ext ((Ext.refl.push (c := jF (.inr (14, [.null, .null])))).trans e6)).keep (fun j t z ht => f7 j t (by omega) ht))).keep (fun j t z ht => f8 j t (by omega) ht)
          have d6 := (((dn6.wide (S2 := fun j => s4.length + 1 ≤ j) (fun j z => by rw [hl4]; exact z)).keep (fun j t z ht => f7 j t (by omega) ht))).keep (fun j t z ht => f8 j t (by omega) ht)
          have hqq : ∀ sh' k bg, Ext sh sh' → sh.length ≤ k → ObjS sh' k → Den sh' (fun j => sh.length ≤ j) (CondF k (D + 2) (fun F => decide (y2 F < y F))) → Q (some k) sh' (cx V (x + 109) e2 bg d) R := h
          exact hqq s8 s4.length _ e8 hl ⟨14, _, by omega, Or.inl ⟨_, a8⟩, rfl, nw2822⟩ ((den_less (Sa := (fun j => s4.length + 1 ≤ j)) (Sb := (fun j => s3.length ≤ j ∧ j < s4.length)) hj hl a8 d6 d4 (fun j z => by omega) (fun j z => by omega) (fun F => rfl)).imp (fun g h => h.more (by omega)))
        rw [if_neg zs2] at hq1 hE1 ⊢
        have h1 : en L (pPlain T L a) = L := hE1
        exact ⟨fun w => absurd rfl w, fun _ => s1_wrongT (r0 := 0) (e14.reg hX) (by omega) (by omega) (bC.ext (show bC X sh V R (x + 109) (sk T L e) from hq1) e14)⟩
end AB
