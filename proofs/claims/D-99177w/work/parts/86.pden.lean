/-! ===== PURE: what made cells mean; parts of sums ===== -/
/-- the scene at s, as the law is asked F -/
def SceneAt (g : List jC) (s : Nat) (F : Nat → Int32) : Prop := ∃ fs : List Value, g[s]? = some (.inr (3, fs)) ∧ jn ≤ s ∧ (∀ i, i < 9 → fs[i]? = some (.int (F i))) ∧ jz (F 7) ∧ jz (F 8)
def Keep (S : Nat → Prop) (sh sh' : List jH) : Prop := ∀ (j : Nat) (t : jH), S j → sh[j]? = some t → sh'[j]? = some t
/-- what holds of the cells of S, however the others change -/
def Den (sh : List jH) (S : Nat → Prop) (φ : List jC → Prop) : Prop := ∀ sh', Keep S sh sh' → ConSh sh' → ∀ V R, φ (mk sh' V R)
theorem Den.keep {sh sh1 : List jH} {S : Nat → Prop} {φ : List jC → Prop} (h : Den sh S φ) (k : Keep S sh sh1) : Den sh1 S φ := fun sh' k2 hC V R => h sh' (fun j t hj ht => k2 j t hj (k j t hj ht)) hC V R
theorem Den.wide {sh : List jH} {S S2 : Nat → Prop} {φ : List jC → Prop} (h : Den sh S φ) (w : ∀ j, S j → S2 j) : Den sh S2 φ := fun sh' k hC V R => h sh' (fun j t hj ht => k j t (w j hj) ht) hC V R
theorem Den.ext {sh sh1 : List jH} {S : Nat → Prop} {φ : List jC → Prop} (h : Den sh S φ) (e : Ext sh sh1) : Den sh1 S φ := h.keep (fun j t _ ht => e j t ht)
def PartF (k : Nat) (x : Ev) (g : List jC) : Prop := (∃ fs : List Value, g[k]? = some (.inr (13, fs))) ∧ ∀ s F, SceneAt g s F → ∀ Q : Int32 → Prop, Q (x F) → wX15_in g k s Q
/-- where a read thing ends, the text's end if it is wrong -/
def en {α : Type} (L : Nat) (r : Pz α) : Nat := match r with
  | .inl _ => L
  | .inr z => z.2
theorem wl_le {T : Nat → Nat} {L a : Nat} (h : a ≤ L) : sk T L a + wl T L a ≤ L := by
  have h1 := wd_le (T := T) (sk_le (T := T) h)
  have h2 : sk T L a ≤ wd T L (sk T L a) := wd_ge
  unfold wl
  omega
theorem isW_wl {w : List Nat} {T : Nat → Nat} {L a : Nat} (h : isW w T L a = true) : wl T L a = w.length := by
  rw [← wAt_len, isW_at.mp h]
theorem wl_sk {T : Nat → Nat} {L a : Nat} : wl T L (sk T L a) = wl T L a := by unfold wl; rw [sk_sk]
theorem wl_0 {T : Nat → Nat} {L a : Nat} (h : ¬ (sk T L a < L ∧ pLo (T (sk T L a)) = true)) : wl T L a = 0 := by
  unfold wl
  rw [show wd T L (sk T L a) = sk T L a from rn_no h, Nat.sub_self]
theorem reg_l1 {sh : List jH} {x : Nat} (h : jReg shX1 sh x) : jn ≤ sh.length := by
  have h1 := h.1
  have := (List.getElem?_eq_some_iff.mp (h.2 0 _ rfl)).1
  omega
section PA
variable {sh : List jH} {V : Nat → Nat → Int32} {R : Nat → Nat → Option Nat} {x a b d L c n : Nat} {T : Nat → Nat} {X : String → List jH → (Nat → Nat → Int32) → (Nat → Nat → Option Nat) → Prop}
theorem s8_factOf {Q : Option Nat → List jC → Prop} {k : Nat} (hC : ConSh sh) (hj : jn ≤ sh.length) (hw : StrW sh k (wAt T L a)) (hc : 1 ≤ c) (hn : 7 ≤ n) (hq : ∀ sh', Ext sh sh' → Q ((pFact T L a).map (fun i => 52 + i)) (mk sh' V R)) : wX16_of (mk sh V R) c n k Q := by
  have h70 : jn = 70 := rfl
  refine ⟨c, n, 0, 0, by omega, by omega, c - 1, n - 7, by omega, by omega, ?_⟩
  rw [mk_len]
  refine nm_e ?_
  rw [mk_pushF]
  have ex : Ext sh (sh ++ [jF (.inl (6, 7, .inr (.inr (.inr (.inr (fun j => if j < 7 then some (52 + j) else none))))))]) := Ext.refl.push
  have d1 : (sh ++ [jF (.inl (6, 7, .inr (.inr (.inr (.inr (fun j => if j < 7 then some (52 + j) else none))))))])[sh.length]? = some (jF (.inl (6, 7, .inr (.inr (.inr (.inr (fun j => if j < 7 then some (52 + j) else none))))))) := at_push
  generalize sh ++ [jF (.inl (6, 7, .inr (.inr (.inr (.inr (fun j => if j < 7 then some (52 + j) else none))))))] = s2 at ex d1 ⊢
  have hC2 : ConSh s2 := ex.con hC
  have hG : ConG (mk s2 V R) := hC2.g
  have hq2 := hq s2 ex
  have hw2 : StrG (mk s2 V R) k (wAt T L a) := by
    obtain ⟨q1, f, e1, e2, e3, e4, e5, e6⟩ := hw
    exact StrW.g ⟨q1, f, ex _ _ e1, ex _ _ e2, e3, e4, e5, e6⟩
  have hjk : jn ≤ k := hw.choose_spec.choose_spec.2.2.2.2.2.1
  refine nm_e ⟨_, _, mk_atF d1, hj, sh.length, rfl, nI 7, Or.inl ⟨hj, 6, _, by decide, mk_atF d1, rfl⟩, 8, ?_⟩
  have eqs : ∀ (i cid : Nat) (w : List Nat) (P : Int32 → Prop), cid ≤ 64 → StrG (mk s2 V R) cid w → P (b2i (isW w T L a = true)) → wJ5_equals (mk s2 V R) cid k P := by
    intro i cid w P hcid hs hP
    refine s5_equals hs hw2 (Or.inr (Or.inr (Or.inl ⟨hjk, hcid⟩))) ?_
    have : b2i (w = wAt T L a) = b2i (isW w T L a = true) := by
      unfold b2i
      by_cases z : isW w T L a = true
      · rw [if_pos z, if_pos (isW_at.mp z).symm]
      · rw [if_neg z, if_neg (fun q => z (isW_at.mpr q.symm))]
    rw [this]
    exact hP
  unfold pFact at hq2
  rw [wX16_of_9]
  refine br_f (by decide) ⟨_, rfl, 7, _, mk_atF d1, hj, (vp_in_nI (by decide) (by decide) : vp_in (nI 0) 7), nm_r (e' := some 52) (by rfl) ⟨52, rfl, _, rfl, by decide, some 0, rfl, 0, rfl, _, (str_0 hG).choose_spec.choose_spec.choose_spec.1, eqs 0 0 (tw 0) _ (by decide) (str_0 hG) ?_⟩⟩
  by_cases z0 : isW (tw 0) T L a = true
  · rw [if_pos z0] at hq2
    rw [b2i_t z0]
    exact br_f (by decide) hq2
  rw [b2i_f z0]
  refine br_t rfl (nm_r (nI_1 0) ?_)
  rw [wX16_of_9]
  refine br_f (by decide) ⟨_, rfl, 7, _, mk_atF d1, hj, (vp_in_nI (by decide) (by decide) : vp_in (nI 1) 7), nm_r (e' := some 53) (by rfl) ⟨53, rfl, _, rfl, by decide, some 2, rfl, 2, rfl, _, (str_1 hG).choose_spec.choose_spec.choose_spec.1, eqs 1 2 (tw 1) _ (by decide) (str_1 hG) ?_⟩⟩
  by_cases z1 : isW (tw 1) T L a = true
  · rw [if_neg z0, if_pos z1] at hq2
    rw [b2i_t z1]
    exact br_f (by decide) hq2
  rw [b2i_f z1]
  refine br_t rfl (nm_r (nI_1 1) ?_)
  rw [wX16_of_9]
  refine br_f (by decide) ⟨_, rfl, 7, _, mk_atF d1, hj, (vp_in_nI (by decide) (by decide) : vp_in (nI 2) 7), nm_r (e' := some 54) (by rfl) ⟨54, rfl, _, rfl, by decide, some 44, rfl, 44, rfl, _, (str_22 hG).choose_spec.choose_spec.choose_spec.1, eqs 2 44 (tw 22) _ (by decide) (str_22 hG) ?_⟩⟩
  by_cases z2 : isW (tw 22) T L a = true
  · rw [if_neg z0, if_neg z1, if_pos z2] at hq2
    rw [b2i_t z2]
    exact br_f (by decide) hq2
  rw [b2i_f z2]
  refine br_t rfl (nm_r (nI_1 2) ?_)
  rw [wX16_of_9]
  refine br_f (by decide) ⟨_, rfl, 7, _, mk_atF d1, hj, (vp_in_nI (by decide) (by decide) : vp_in (nI 3) 7), nm_r (e' := some 55) (by rfl) ⟨55, rfl, _, rfl, by decide, some 46, rfl, 46, rfl, _, (str_23 hG).choose_spec.choose_spec.choose_spec.1, eqs 3 46 (tw 23) _ (by decide) (str_23 hG) ?_⟩⟩
  by_cases z3 : isW (tw 23) T L a = true
  · rw [if_neg z0, if_neg z1, if_neg z2, if_pos z3] at hq2
    rw [b2i_t z3]
    exact br_f (by decide) hq2
  rw [b2i_f z3]
  refine br_t rfl (nm_r (nI_1 3) ?_)
  rw [wX16_of_9]
  refine br_f (by decide) ⟨_, rfl, 7, _, mk_atF d1, hj, (vp_in_nI (by decide) (by decide) : vp_in (nI 4) 7), nm_r (e' := some 56) (by rfl) ⟨56, rfl, _, rfl, by decide, some 48, rfl, 48, rfl, _, (str_24 hG).choose_spec.choose_spec.choose_spec.1, eqs 4 48 (tw 24) _ (by decide) (str_24 hG) ?_⟩⟩
  by_cases z4 : isW (tw 24) T L a = true
  · rw [if_neg z0, if_neg z1, if_neg z2, if_neg z3, if_pos z4] at hq2
    rw [b2i_t z4]
    exact br_f (by decide) hq2
  rw [b2i_f z4]
  refine br_t rfl (nm_r (nI_1 4) ?_)
  rw [wX16_of_9]
  refine br_f (by decide) ⟨_, rfl, 7, _, mk_atF d1, hj, (vp_in_nI (by decide) (by decide) : vp_in (nI 5) 7), nm_r (e' := some 57) (by rfl) ⟨57, rfl, _, rfl, by decide, some 50, rfl, 50, rfl, _, (str_25 hG).choose_spec.choose_spec.choose_spec.1, eqs 5 50 (tw 25) _ (by decide) (str_25 hG) ?_⟩⟩
  by_cases z5 : isW (tw 25) T L a = true
  · rw [if_neg z0, if_neg z1, if_neg z2, if_neg z3, if_neg z4, if_pos z5] at hq2
    rw [b2i_t z5]
    exact br_f (by decide) hq2
  rw [b2i_f z5]
  refine br_t rfl (nm_r (nI_1 5) ?_)
  rw [wX16_of_9]
  refine br_f (by decide) ⟨_, rfl, 7, _, mk_atF d1, hj, (vp_in_nI (by decide) (by decide) : vp_in (nI 6) 7), nm_r (e' := some 58) (by rfl) ⟨58, rfl, _, rfl, by decide, some 10, rfl, 10, rfl, _, (str_5 hG).choose_spec.choose_spec.choose_spec.1, eqs 6 10 (tw 5) _ (by decide) (str_5 hG) ?_⟩⟩
  by_cases z6 : isW (tw 5) T L a = true
  · rw [if_neg z0, if_neg z1, if_neg z2, if_neg z3, if_neg z4, if_neg z5, if_pos z6] at hq2
    rw [b2i_t z6]
    exact br_f (by decide) hq2
  rw [b2i_f z6]
  refine br_t rfl (nm_r (nI_1 6) ?_)
  rw [if_neg z0, if_neg z1, if_neg z2, if_neg z3, if_neg z4, if_neg z5, if_neg z6] at hq2
  rw [wX16_of_9]
  exact br_t (by decide) hq2
theorem s8_kindOf {Q : Option Nat → List jC → Prop} {k : Nat} (hC : ConSh sh) (hj : jn ≤ sh.length) (hw : StrW sh k (wAt T L a)) (hc : 1 ≤ c) (hn : 3 ≤ n) (hq : ∀ sh', Ext sh sh' → Q ((pKind T L a).map (fun i => 59 + i)) (mk sh' V R)) : wX9_of (mk sh V R) c n k Q := by
  have h70 : jn = 70 := rfl
  refine ⟨c, n, 0, 0, by omega, by omega, c - 1, n - 3, by omega, by omega, ?_⟩
  rw [mk_len]
  refine nm_e ?_
  rw [mk_pushF]
  have ex : Ext sh (sh ++ [jF (.inl (7, 3, .inr (.inr (.inr (.inr (fun j => if j < 3 then some (59 + j) else none))))))]) := Ext.refl.push
  have d1 : (sh ++ [jF (.inl (7, 3, .inr (.inr (.inr (.inr (fun j => if j < 3 then some (59 + j) else none))))))])[sh.length]? = some (jF (.inl (7, 3, .inr (.inr (.inr (.inr (fun j => if j < 3 then some (59 + j) else none))))))) := at_push
  generalize sh ++ [jF (.inl (7, 3, .inr (.inr (.inr (.inr (fun j => if j < 3 then some (59 + j) else none))))))] = s2 at ex d1 ⊢
  have hC2 : ConSh s2 := ex.con hC
  have hG : ConG (mk s2 V R) := hC2.g
  have hq2 := hq s2 ex
  have hw2 : StrG (mk s2 V R) k (wAt T L a) := by
    obtain ⟨q1, f, e1, e2, e3, e4, e5, e6⟩ := hw
    exact StrW.g ⟨q1, f, ex _ _ e1, ex _ _ e2, e3, e4, e5, e6⟩
  have hjk : jn ≤ k := hw.choose_spec.choose_spec.2.2.2.2.2.1
  refine nm_e ⟨_, _, mk_atF d1, hj, sh.length, rfl, nI 3, Or.inl ⟨hj, 7, _, by decide, mk_atF d1, rfl⟩, 4, ?_⟩
  have eqs : ∀ (i cid : Nat) (w : List Nat) (P : Int32 → Prop), cid ≤ 64 → StrG (mk s2 V R) cid w → P (b2i (isW w T L a = true)) → wJ5_equals (mk s2 V R) cid k P := by
    intro i cid w P hcid hs hP
    refine s5_equals hs hw2 (Or.inr (Or.inr (Or.inl ⟨hjk, hcid⟩))) ?_
    have : b2i (w = wAt T L a) = b2i (isW w T L a = true) := by
      unfold b2i
      by_cases z : isW w T L a = true
      · rw [if_pos z, if_pos (isW_at.mp z).symm]
      · rw [if_neg z, if_neg (fun q => z (isW_at.mpr q.symm))]
    rw [this]
    exact hP
  unfold pKind at hq2
  rw [wX9_of_9]
  refine br_f (by decide) ⟨_, rfl, 3, _, mk_atF d1, hj, (vp_in_nI (by decide) (by decide) : vp_in (nI 0) 3), nm_r (e' := some 59) (by rfl) ⟨59, rfl, _, rfl, by decide, some 38, rfl, 38, rfl, _, (str_19 hG).choose_spec.choose_spec.choose_spec.1, eqs 0 38 (tw 19) _ (by decide) (str_19 hG) ?_⟩⟩
  by_cases z0 : isW (tw 19) T L a = true
  · rw [if_pos z0] at hq2
    rw [b2i_t z0]
    exact br_f (by decide) hq2
  rw [b2i_f z0]
  refine br_t rfl (nm_r (nI_1 0) ?_)
  rw [wX9_of_9]
  refine br_f (by decide) ⟨_, rfl, 3, _, mk_atF d1, hj, (vp_in_nI (by decide) (by decide) : vp_in (nI 1) 3), nm_r (e' := some 60) (by rfl) ⟨60, rfl, _, rfl, by decide, some 40, rfl, 40, rfl, _, (str_20 hG).choose_spec.choose_spec.choose_spec.1, eqs 1 40 (tw 20) _ (by decide) (str_20 hG) ?_⟩⟩
  by_cases z1 : isW (tw 20) T L a = true
  · rw [if_neg z0, if_pos z1] at hq2
    rw [b2i_t z1]
    exact br_f (by decide) hq2
  rw [b2i_f z1]
  refine br_t rfl (nm_r (nI_1 1) ?_)
  rw [wX9_of_9]
  refine br_f (by decide) ⟨_, rfl, 3, _, mk_atF d1, hj, (vp_in_nI (by decide) (by decide) : vp_in (nI 2) 3), nm_r (e' := some 61) (by rfl) ⟨61, rfl, _, rfl, by decide, some 42, rfl, 42, rfl, _, (str_21 hG).choose_spec.choose_spec.choose_spec.1, eqs 2 42 (tw 21) _ (by decide) (str_21 hG) ?_⟩⟩
  by_cases z2 : isW (tw 21) T L a = true
  · rw [if_neg z0, if_neg z1, if_pos z2] at hq2
    rw [b2i_t z2]
    exact br_f (by decide) hq2
  rw [b2i_f z2]
  refine br_t rfl (nm_r (nI_1 2) ?_)
  rw [if_neg z0, if_neg z1, if_neg z2] at hq2
  rw [wX9_of_9]
  exact br_t (by decide) hq2
theorem s1_onePart {Q : Option Nat → List jH → (Nat → Nat → Int32) → (Nat → Nat → Option Nat) → Prop} (hX : jReg shX1 sh x) (hC : ConSh sh) (hT : TxtC V (x + 109) T L) (ha : a ≤ L) (hc : 20 ≤ c) (hn : 100 + 5 * (en L (pPart T L a) - a) ≤ n) (hq : pO (pPart T L a) (fun b => bC X sh V R (x + 109) b) (fun y e => ∀ sh' k bg, Ext sh sh' → sh.length ≤ k → k < sh'.length → ObjS sh' k → Den sh' (fun j => sh.length ≤ j) (PartF k y) → Q (some k) sh' (cx V (x + 109) e bg d) R)) : wX1_onePart x sh (cx V (x + 109) a b d) R c n Q X := by
  have hj := reg_l1 hX
  have hL := hT.1
  have hwl := wl_le (T := T) ha
  have hsk := sk_ge (T := T) (L := L) (a := a)
  have hs := sk_le (T := T) ha
  refine s3_isFigure hT ha ?_
  unfold pPart at hq hn
  by_cases z : sk T L a < L ∧ pFi (T (sk T L a)) = true
  · rw [if_pos z] at hq hn ⊢
    refine br_f (by decide) ⟨c - 1, n - 2, by omega, by omega, nm_e (nm_e ⟨1, 6, 0, 0, by omega, by omega, ?_⟩)⟩
    have ex : Ext sh (sh ++ [jF (.inr (13, [.int 0, .null]))]) := Ext.refl.push
    refine s3_number (ex.reg (reg3 hX)) hT hs (by omega) (by omega) ?_
    rw [show pNum 0 999 T L (sk T L a) = pNum 0 999 T L a by unfold pNum; rw [sk_sk]]
    refine pO_mono (pO_B hq) (fun b h => h.ext ex) (fun v e h => ⟨ex.reg hX, ?_⟩)
    refine putF at_push ex (Nat.le_refl _) hj (Nat.le_of_ble_eq_true rfl) (fun s1 e1 a1 _ l1 => ?_)
    refine putF a1 e1 (Nat.le_refl _) hj (Nat.le_of_ble_eq_true rfl) (fun s2 e2 a2 _ l2 => ?_)
    refine ⟨s2, _, _, rfl, e2.reg hX, h s2 sh.length _ e2 (Nat.le_refl _) (by rw [l2, l1, List.length_append]; exact Nat.lt_succ_self _) ⟨13, _, hj, Or.inl ⟨_, a2⟩, rfl, nw2821⟩ (fun sh' hk hC' V' R' => ?_)⟩
    have b2 := hk _ _ (Nat.le_refl _) a2
    exact ⟨⟨_, mk_atF b2⟩, fun s F hF Q hQ => ⟨_, mk_atF b2, hj, none, rfl, fun _ => ⟨_, mk_atF b2, hj, nI v, rfl, hQ⟩, fun q hq => by cases hq⟩⟩
  · rw [if_neg z] at hq hn ⊢
    have h5 : 5 * wl T L a + 100 ≤ n := by
      rcases hp : pFact T L a with _ | i
      · rw [hp] at hn
        have : 100 + 5 * (L - a) ≤ n := hn
        omega
      · rw [hp] at hn
        have : 100 + 5 * (wd T L (sk T L a) - a) ≤ n := hn
        have h2 : wl T L a = wd T L (sk T L a) - sk T L a := rfl
        omega
    refine br_t rfl ⟨10, n - 20, c - 10, 20, by omega, by omega, s3_word (reg3 hX) hT hs (by omega) (by rw [wl_sk]; omega) (fun s1 k e1 w1 l1 => ⟨e1.reg hX, k, rfl, 1, 7, c - 11, 13, by omega, by omega, ?_⟩)⟩
    have w2 : StrW s1 k (wAt T L a) := by
      rw [show wAt T L (sk T L a) = wAt T L a by unfold wAt; rw [sk_sk]] at w1
      exact w1
    have hj1 : jn ≤ s1.length := by have := e1.len; omega
    refine s8_factOf (e1.con hC) hj1 w2 (by omega) (by omega) (fun s2 e2 => ⟨s2, _, _, rfl, (e1.trans e2).reg hX, ?_⟩)
    rw [sk_sk]
    have e12 := e1.trans e2
    have hj2 : jn ≤ s2.length := by have := e12.len; omega
    rcases hp : pFact T L a with _ | i
    · rw [hp] at hq
      have hq2 : bC X sh V R (x + 109) (sk T L a) := hq
      refine ⟨fun _ => ⟨1, 6, 0, 0, by omega, by omega, s3_wrong (e12.reg (reg3 hX)) (by omega) (by omega) (fun sh' q fs h1 h2 h3 => ⟨(e12.trans h1).reg hX, q, rfl, _, mk_atF h2, h3, hq2 sh' _ _ (e12.trans h1)⟩)⟩, fun q hq => by cases hq⟩
    · rw [hp] at hq
      have hi := (pFact_lt hp).2
      refine ⟨fun q => (by cases q), fun q hq3 => ?_⟩
      have hq4 : q = 52 + i := (Option.some.inj hq3).symm
      subst hq4
      refine ⟨c - 12, 11, by omega, by omega, nm_e (nm_e ?_)⟩
      have ex : Ext sh (s2 ++ [jF (.inr (13, [.int 0, .null]))]) := e12.push
      have hl := e12.len
      refine putF at_push ex hl hj2 (Nat.le_of_ble_eq_true rfl) (fun s3 e3 a3 _ l3 => ?_)
      refine putF a3 e3 hl hj2 (Nat.le_of_ble_eq_true rfl) (fun s4 e4 a4 _ l4 => ?_)
      have hq5 := hq s4 s2.length (sk T L a) e4 hl (by rw [l4, l3, List.length_append]; exact Nat.lt_succ_self _) ⟨13, _, hj2, Or.inl ⟨_, a4⟩, rfl, nw2821⟩
      refine ⟨s4, _, _, rfl, e4.reg hX, hq5 (fun sh' hk hC' V' R' => ?_)⟩
      have b4 := hk _ _ hl a4
      refine ⟨⟨_, mk_atF b4⟩, fun s F hF Q hQ => ⟨_, mk_atF b4, hj2, some (52 + i), rfl, fun q => (by cases q), fun q hq6 => ⟨_, mk_atF b4, hj2, some (52 + i), rfl, 52 + i, rfl, ?_⟩⟩⟩
      obtain ⟨fs, g1, g2, g3, -⟩ := hF
      refine ⟨fs, g1, ?_⟩
      have hQ2 : Q (F i) := hQ
      have hcn : ∀ i, i < 7 → ∃ s, jcon[52 + i]? = some (.inr (18, [.int (nI i), .ref s])) := fun i hi => by
        match i, hi with
        | 0, _ => exact ⟨0, rfl⟩
        | 1, _ => exact ⟨2, rfl⟩
        | 2, _ => exact ⟨44, rfl⟩
        | 3, _ => exact ⟨46, rfl⟩
        | 4, _ => exact ⟨48, rfl⟩
        | 5, _ => exact ⟨50, rfl⟩
        | 6, _ => exact ⟨10, rfl⟩
      obtain ⟨sid, hcn⟩ := hcn i hi
      have hlt : 52 + i < jn := by show 52 + i < 70; omega
      refine ⟨_, hcn, hC'.g _ _ hcn, hlt, _, hcn, hlt, nI i, rfl, ?_⟩
      have rd : ∀ j : Nat, j < 9 → i = j → ∃ fs45 : List Value, (mk sh' V' R')[s]? = some (.inr (3, fs45)) ∧ jn ≤ s ∧ ∃ v45 : Int32, fs45[j]? = some (.int v45) ∧ Q v45 := fun j hj9 hij => ⟨fs, g1, g2, F j, g3 j hj9, by rw [← hij]; exact hQ2⟩
      have ne : ∀ j : Nat, j < 7 → ¬ nI i = nI j → ¬ i = j := fun j _ q w => q (by rw [w])
      have eqn : ∀ j : Nat, j < 7 → nI i = nI j → i = j := fun j _ q => (nI_eq (by omega) (by omega)).mp q
      exact ⟨fun q => rd 0 (by decide) (eqn 0 (by decide) q), fun q0 => ⟨fun q => rd 1 (by decide) (eqn 1 (by decide) q), fun q1 => ⟨fun q => rd 2 (by decide) (eqn 2 (by decide) q), fun q2 => ⟨fun q => rd 3 (by decide) (eqn 3 (by decide) q), fun q3 => ⟨fun q => rd 4 (by decide) (eqn 4 (by decide) q), fun q4 => ⟨fun q => rd 5 (by decide) (eqn 5 (by decide) q), fun q5 => rd 6 (by decide) (by
        have := ne 0 (by decide) q0; have := ne 1 (by decide) q1; have := ne 2 (by decide) q2; have := ne 3 (by decide) q3; have := ne 4 (by decide) q4; have := ne 5 (by decide) q5
        omega)⟩⟩⟩⟩⟩⟩
end PA
