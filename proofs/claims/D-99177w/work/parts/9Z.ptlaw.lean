/-! ===== PURE: the twin reads the ground, and a law, to keep it ===== -/
abbrev xUo : String := "java/lang/UnsupportedOperationException"
section TL
variable {sh : List jH} {R : Nat → Nat → Option Nat} {V V' : Nat → Nat → Int32} {t L a b d : Nat} {f : Int32} {T : Nat → Nat} {m : Row} {D : St} {Q : Int32 → (Nat → Nat → Int32) → Prop} {P : (Nat → Nat → Int32) → Prop} {z : Int32 × Int32 × Int32}
theorem gLine_sk : gLine T L m (sk T L a) = gLine T L m a := by
  unfold gLine gKind
  simp only [sk_sk, isW_sk]
theorem s6_readGround (hC : ConSh sh) (hT : TxtT V t T L) (h9 : V t 9 = -1) (hR : RowOk m) (hq : pO (gText T L m) (fun b => ∀ v m2 a2, GrS m m2 → Q v (tm V t m2 a2 (nI b) 0)) (fun m2 _ => ∀ v, Q v (tm V t m2 L (-1) 0))) : wX6_read t sh R (tm V t m 0 (-1) 0) 0 Q := by
  have hL := hT.1
  have hTm : ∀ {m : Row}, TxtT (vrow V (t + 1) m) t T L := txt_row hT h9
  have hs := sk_le (T := T) (Nat.zero_le L)
  have quit : ∀ k v m2 a2 f x2, x2 = 0 ∨ ¬ f = -1 → Q v (tm V t m2 a2 f 0) → wX6_read_23 t sh R 0 Q (k + 1) (tm V t m2 a2 f 0) x2 v := by
    intro k v m2 a2 f x2 h h2
    rw [wX6_read_23]
    refine ⟨fun _ => h2, fun w => ⟨fun _ => h2, fun w2 => ?_⟩⟩
    rw [tm_f] at w2
    exact absurd w2 (h.resolve_left w)
  have step : ∀ k, (∀ k', k = k' + 1 → ∀ n m1 a, n + k' = 14 → a ≤ L → RowOk m1 → GrS m m1 → pO (gTextL T L (k' + 1) n m1 a) (fun b => ∀ v m2 a2, GrS m m2 → Q v (tm V t m2 a2 (nI b) 0)) (fun m2 _ => ∀ v, Q v (tm V t m2 L (-1) 0)) → wX6_read_23 t sh R 0 Q (k' + 2) (tm V t m1 a (-1) 0) 1 (nI n)) → ∀ n m1 a, n + k = 14 → a ≤ L → RowOk m1 → GrS m m1 → pO (gTextL T L (k + 1) n m1 a) (fun b => ∀ v m2 a2, GrS m m2 → Q v (tm V t m2 a2 (nI b) 0)) (fun m2 _ => ∀ v, Q v (tm V t m2 L (-1) 0)) → wX6_read_23 t sh R 0 Q (k + 2) (tm V t m1 a (-1) 0) 1 (nI n) := by
    intro k ih n m1 a hk ha hR1 hG1 hq
    have hsa := sk_le (T := T) ha
    rw [wX6_read_23, tm_f]
    refine br_f (by decide) ⟨fun w => absurd rfl w, fun _ => s6_skip hTm (by omega) (br_t rfl ?_)⟩
    unfold gTextL at hq
    refine ⟨fun w => ?_, fun w => ?_⟩
    · have hn : ¬ n = 14 := fun q => w (by rw [q]; rfl)
      rw [if_neg hn] at hq
      obtain ⟨k2, rfl⟩ : ∃ k2, k = k2 + 1 := ⟨k - 1, by omega⟩
      refine br_t rfl (s6_groundLine hC hT h9 hR1 hsa ?_)
      rw [gLine_sk]
      refine pO_mono (pO_and (pO_B hq) (gLine_ok hR1 ha)) (fun b h a2 h2 => ?_) (fun m2 e h => ?_)
      · have hb : b ≤ L := h.2
        refine nm_r (nI_1 _) (s6_skip hTm (by omega) ?_)
        rw [tx_f]
        exact ⟨fun _ => quit _ _ _ _ _ _ (Or.inl rfl) (h.1 _ _ _ hG1), fun q => absurd q (f_ne (by omega))⟩
      · obtain ⟨hq2, hae, heL, hR2, hG2⟩ := h
        have hG3 := hG1.trans hG2
        have hse := sk_le (T := T) heL
        refine nm_r (nI_1 _) (s6_skip hTm (by omega) ?_)
        rw [tx_f, tx_a, tx_10 hTm]
        refine ⟨fun q => absurd rfl q, fun _ => ⟨fun q => ?_, fun q => ?_⟩⟩
        · have hne : ¬ sk T L e = L := fun q2 => q (by rw [q2])
          rw [if_neg hne] at hq2
          refine s6_isSign (by decide) hTm (by omega) ?_
          rw [isS_sk, sk_sk]
          split
          · next z1 =>
            rw [if_pos z1] at hq2
            refine br_f (by decide) ?_
            rw [tx_a]
            refine nm_r (nI_1 _) ?_
            rw [txs_a]
            exact ih k2 rfl (n + 1) m2 (sk T L e + 1) (by omega) (by have := (isS_iff.mp z1).1; omega) hR2 hG3 hq2
          · next z1 =>
            rw [if_neg z1] at hq2
            refine br_t rfl ?_
            rw [tx_a]
            refine s6_fwrong ?_
            rw [if_pos rfl]
            exact quit _ _ _ _ _ _ (Or.inr (f_ne (by omega))) (hq2 _ _ _ hG3)
        · have he : sk T L e = L := (nI_eq (by omega) (by omega)).mp q
          rw [if_pos he] at hq2
          rw [he]
          exact quit _ _ _ _ _ _ (Or.inl rfl) (hq2 _)
    · have hn : n = 14 := (nI_eq (b := 14) (by omega) (by decide)).mp w
      rw [if_pos hn] at hq
      rw [tx_a]
      refine s6_fwrong ?_
      rw [if_pos rfl]
      refine nm_r (nI_1 _) (s6_skip hTm (by omega) ?_)
      rw [tx_f, sk_sk]
      exact ⟨fun _ => quit _ _ _ _ _ _ (Or.inl rfl) (hq _ _ _ hG1), fun q => absurd q (f_ne (by omega))⟩
  have lp : ∀ k n m1 a, n + k = 14 → a ≤ L → RowOk m1 → GrS m m1 → pO (gTextL T L (k + 1) n m1 a) (fun b => ∀ v m2 a2, GrS m m2 → Q v (tm V t m2 a2 (nI b) 0)) (fun m2 _ => ∀ v, Q v (tm V t m2 L (-1) 0)) → wX6_read_23 t sh R 0 Q (k + 2) (tm V t m1 a (-1) 0) 1 (nI n) := by
    intro k
    induction k with
    | zero => exact step 0 (fun k' h => absurd h (by omega))
    | succ k ih => exact step (k + 1) (fun k' h => by obtain rfl : k = k' := by omega
                                                      exact ih)
  unfold wX6_read
  unfold gText at hq
  refine s6_skip hTm (by decide) ?_
  rw [tx_10 hTm, tx_a]
  by_cases w : sk T L 0 < L
  · rw [if_pos w] at hq
    refine br_f (nI_ge w (by omega)) ⟨_, lp 14 0 m _ rfl hs hR GrS.refl hq⟩
  · rw [if_neg w] at hq
    refine br_t (nI_le (by omega) (by omega)) ⟨1, ?_⟩
    rw [show sk T L 0 = L by omega]
    exact quit 0 _ _ _ _ _ (Or.inl rfl) (hq _)
/-- the twin as it begins to read the tape -/
def bw (V : Nat → Nat → Int32) (t L : Nat) : Nat → Nat → Int32 := vset (vset (vset V t 9 (-1)) t 10 (nI L)) t 8 0
theorem bw_n (h : b ≠ t) : bw V t L b = V b := by
  unfold bw
  rw [vset_n _ _ _ h, vset_n _ _ _ h, vset_n _ _ _ h]
theorem bw_j {j : Nat} : bw V t L t j = if j = 8 then 0 else if j = 10 then nI L else if j = 9 then -1 else V t j := by
  unfold bw
  rw [vset_at, vset_at, vset_at]
theorem bw_eq : vset (vset (vset (vset (vset (vset V t 12 (-1 : Int32)) t 9 (-1 : Int32)) t 10 (nI L)) t 8 (0 : Int32)) t 11 (0 : Int32)) t 13 (0 : Int32) = tx (bw V t L) t 0 (-1) 0 := by
  refine vext (k := t) (fun b hb => ?_) (fun j => ?_)
  · rw [tx_b hb, bw_n hb, vset_n _ _ _ hb, vset_n _ _ _ hb, vset_n _ _ _ hb, vset_n _ _ _ hb, vset_n _ _ _ hb, vset_n _ _ _ hb]
  · rw [tx_j, bw_j, vset_at, vset_at, vset_at, vset_at, vset_at, vset_at]
    by_cases w13 : j = 13
    · subst w13; rfl
    by_cases w12 : j = 12
    · subst w12; rfl
    by_cases w11 : j = 11
    · subst w11; rfl
    simp only [if_neg w13, if_neg w12, if_neg w11]
theorem bw_txt (hI : TI V t D) (hO : StOk D) : TxtT (bw V t (sL D)) t (sT D) (sL D) := ⟨hO.2.2.2.2.2.1, bw_j, hO.2.2.2.2.2.2, Or.inl ⟨bw_j, fun i hi => by rw [bw_n (by omega)]; exact hI.2.2.2.2.2.1 i hi⟩⟩
theorem s6_begins (h8 : V t 8 = nI L) (hq : P (tx (bw V t L) t 0 (-1) 0)) : wX6_begins t V P := by
  refine nm_r (e' := nI L) (by rw [vset_at, if_neg (by decide), vset_at, if_neg (by decide)]; exact h8) ?_
  rw [bw_eq]
  exact hq
def a_ground (D : St) : Ot × St := match gText (sT D) (sL D) (sM D) with
  | .inl b => (.inr (xIa, 1), (sM D, sW D, sI D, sA D, sT D, 0, nI b))
  | .inr (m2, _) => if sM D 0 = 12 then (.inr (xUo, 2), (sM D, sW D, sI D, sA D, sT D, 0, -1)) else (.inl (sM D 0 + 1), (upd m2 0 (sM D 0 + 1), sW D, sI D, [], sT D, 0, -1))
theorem gText_ok (hR : RowOk m) : pO (gText T L m) (fun b => b ≤ L) (fun m2 _ => RowOk m2 ∧ GrS m m2) := by
  have lp : ∀ k n m1 a, a ≤ L → RowOk m1 → GrS m m1 → pO (gTextL T L k n m1 a) (fun b => b ≤ L) (fun m2 _ => RowOk m2 ∧ GrS m m2) := by
    intro k
    induction k with
    | zero => intro n m1 a ha _ _; exact sk_le ha
    | succ k ih =>
      intro n m1 a ha h1 h2
      unfold gTextL
      split
      · exact sk_le ha
      · refine pB_pO (pO_mono (gLine_ok h1 ha) (fun _ z => z) (fun m2 e h => ?_))
        have h3 := h2.trans h.2.2.2
        split
        · exact ⟨h.2.2.1, h3⟩
        · split
          · next w => exact ih _ _ _ (by have := (isS_iff.mp w).1; omega) h.2.2.1 h3
          · exact sk_le h.2.1
  unfold gText
  split
  · exact lp _ _ _ _ (sk_le (Nat.zero_le _)) hR GrS.refl
  · exact ⟨hR, GrS.refl⟩
/-- what a text leaves the twin as, told all at once -/
theorem TP.txt {D' : St} {k : Int32} (hI : TI V t D) (hn : ∀ b, b ≠ t → b ≠ t + 1 → b ≠ t + 3 → V' b = V b) (h1 : V' (t + 1) = sM D') (hi : sI D' = sI D) (hA : (sA D' = sA D ∧ V' t 6 = V t 6) ∨ (sA D' = [] ∧ V' t 6 = 0)) (hL : sL D' = 0) (h0 : V' t 0 = k) (h3 : V' t 3 = V t 3) (h8 : V' t 8 = 0) (h12 : V' t 12 = sF D') (h15 : jz (V' t 15)) (h16 : jz (V' t 16)) : TP V t D' k V' := by
  refine ⟨⟨h1, by rw [hi]; exact hI.2.1.frame (hn _ (by omega) (by omega) (by omega)) h3, ?_, ?_, by rw [hL]; exact h8, fun i hi => by rw [hL] at hi; omega, h12, h15, h16⟩, h0, fun b hb => hn b (by omega) (by omega) (by omega)⟩
  · rcases hA with ⟨e, h⟩ | ⟨e, h⟩
    · rw [e]; exact h.trans hI.2.2.1
    · rw [e]; exact h
  · intro i j h2 hj
    rcases hA with ⟨e, h⟩ | ⟨e, h⟩
    · rw [e] at h2 ⊢
      rw [hn _ (by omega) (by omega) (by omega)]
      exact hI.2.2.2.1 i j h2 hj
    · rw [e] at h2
      exact absurd h2 (by show ¬ i < 0; omega)
theorem t_ground (hC : ConSh sh) (hI : TI V t D) (hO : StOk D) (hq : oP (a_ground D).1 V t (a_ground D).2 Q) : wX6_ground t sh R V Q := by
  have hg := gText_ok (T := sT D) (L := sL D) hO.1
  refine s6_putsAside (fun V1 p1 p2 => ?_)
  have e1 : V1 (t + 1) = sM D := by rw [p1 _ (by omega)]; exact hI.1
  have et : V1 t = V t := p1 t (by omega)
  have hI1 : TI V1 t D := hI.frame (p1 _ (by omega)) (p1 _ (by omega)) (p1 _ (by omega)) (p1 _ (by omega)) (fun j _ => by rw [et]) (by rw [et]; exact hI.j15) (by rw [et]; exact hI.j16)
  refine s6_begins (L := sL D) (by rw [et]; exact hI.2.2.2.2.1) ?_
  have hrow : tx (bw V1 t (sL D)) t 0 (-1) 0 = tm (bw V1 t (sL D)) t (sM D) 0 (-1) 0 := by
    unfold tm
    have : bw V1 t (sL D) (t + 1) = sM D := by rw [bw_n (by omega)]; exact e1
    rw [← this, vrow_id]
  rw [hrow]
  have st : ∀ m2 a f, (∀ j, tm (bw V1 t (sL D)) t m2 a f 0 t j = if j = 13 then nI 0 else if j = 12 then f else if j = 11 then nI a else if j = 8 then 0 else if j = 10 then nI (sL D) else if j = 9 then -1 else V t j) ∧ (∀ b, b ≠ t → b ≠ t + 1 → b ≠ t + 3 → tm (bw V1 t (sL D)) t m2 a f 0 b = V b) ∧ tm (bw V1 t (sL D)) t m2 a f 0 (t + 3) = V1 (t + 3) := by
    intro m2 a f
    refine ⟨fun j => ?_, fun b b1 b2 b3 => ?_, ?_⟩
    · unfold tm
      rw [tx_j, vrow_n _ _ (by omega), bw_j, et]
    · unfold tm
      rw [tx_b b1, vrow_n _ _ b2, bw_n b1]
      exact p1 b b3
    · unfold tm
      rw [tx_b (by omega), vrow_n _ _ (by omega), bw_n (by omega)]
  have fail : ∀ (m2 : Row) (a : Nat) (f e : Int32), GrS (sM D) m2 → ¬ e ≤ 0 → (∀ V' r, TP V t (sM D, sW D, sI D, sA D, sT D, 0, f) e V' → Q r V') → wX6_ground_43 t sh R Q (tm (bw V1 t (sL D)) t m2 a f 0) e := by
    intro m2 a f e hG he h
    obtain ⟨s1, s2, s3⟩ := st m2 a f
    have s4 : tm (bw V1 t (sL D)) t m2 a f 0 (t + 1) = m2 := tm_row
    generalize tm (bw V1 t (sL D)) t m2 a f 0 = V2 at s1 s2 s3 s4 ⊢
    refine t_thr1 ?_
    rw [if_neg he]
    refine s6_comesBack (fun V3 q1 q2 => h V3 0 ?_)
    have g : ∀ j, V3 t j = if j = 0 then e else V2 t j := fun j => by rw [q1 _ (by omega), vset_at]
    have gn : ∀ b, b ≠ t → b ≠ t + 1 → V3 b = V2 b := fun b b1 b2 => by rw [q1 _ b2, vset_n _ _ _ b1]
    refine TP.txt hI (fun b b1 b2 b3 => (gn b b1 b2).trans (s2 b b1 b2 b3)) ?_ rfl (Or.inl ⟨rfl, ?_⟩) rfl ?_ ?_ ?_ ?_ ?_ ?_
    · funext j
      rw [q2, vset_n _ _ _ (by omega), s3, vset_n _ _ _ (by omega), s4]
      by_cases w : j < 619
      · rw [if_pos w, p2 j w, hI.1]
      · rw [if_neg w]
        exact hG j (by omega)
    · rw [g, s1]; rfl
    · rw [g]; rfl
    · rw [g, s1]; rfl
    · rw [g, s1]; rfl
    · rw [g, s1]; rfl
    · rw [g, s1]; exact hI.j15
    · rw [g, s1]; exact hI.j16
  refine s6_readGround hC (bw_txt hI1 hO) bw_j hO.1 ?_
  unfold a_ground at hq
  rcases hr : gText (sT D) (sL D) (sM D) with b | ⟨m2, e⟩
  · rw [hr] at hq hg
    have hb : b ≤ sL D := hg
    have hL := hO.2.2.2.2.2.1
    intro v m2 a2 hG
    rw [tm_f]
    exact ⟨fun q => absurd q (f_ne (by omega)), fun _ => fail m2 a2 (nI b) 1 hG (by decide) hq⟩
  · rw [hr] at hq hg
    have hg2 : RowOk m2 ∧ GrS (sM D) m2 := hg
    have hm0 : m2 0 = sM D 0 := hg2.2 0 (by omega)
    intro v
    rw [tm_f, tm_row]
    dsimp only
    rw [hm0]
    refine br_t rfl ⟨fun w => ?_, fun w => ?_⟩
    · have hq2 : oP (.inl (sM D 0 + 1)) V t (upd m2 0 (sM D 0 + 1), sW D, sI D, [], sT D, 0, -1) Q := by
        have h5 := hq
        simp only [if_neg w] at h5
        exact h5
      obtain ⟨s1, s2, s3⟩ := st m2 (sL D) (-1)
      have s4 : tm (bw V1 t (sL D)) t m2 (sL D) (-1) 0 (t + 1) = m2 := tm_row
      generalize tm (bw V1 t (sL D)) t m2 (sL D) (-1) 0 = V2 at s1 s2 s3 s4 ⊢
      refine t_thr1 ?_
      rw [if_pos (by decide)]
      refine nm_r (e' := sM D 0 + 1) (by rw [vset_n _ _ _ (by omega), s4, hm0]) ?_
      have g : ∀ j, vset (vset (vset V2 t 0 0) (t + 1) 0 (sM D 0 + 1)) t 6 0 t j = if j = 6 then 0 else if j = 0 then 0 else V2 t j := fun j => by rw [vset_at, vset_n _ _ _ (by omega), vset_at]
      have gr : vset (vset (vset V2 t 0 0) (t + 1) 0 (sM D 0 + 1)) t 6 0 (t + 1) = upd m2 0 (sM D 0 + 1) := by rw [vset_n _ _ _ (by omega), vset_s, vset_n _ _ _ (by omega), s4]
      have gn : ∀ b, b ≠ t → b ≠ t + 1 → vset (vset (vset V2 t 0 0) (t + 1) 0 (sM D 0 + 1)) t 6 0 b = V2 b := fun b b1 b2 => by rw [vset_n _ _ _ b1, vset_n _ _ _ b2, vset_n _ _ _ b1]
      generalize vset (vset (vset V2 t 0 0) (t + 1) 0 (sM D 0 + 1)) t 6 0 = V3 at g gr gn ⊢
      rw [gr, upd_s]
      refine hq2 V3 (TP.txt hI (fun b b1 b2 b3 => (gn b b1 b2).trans (s2 b b1 b2 b3)) gr rfl (Or.inr ⟨rfl, ?_⟩) rfl ?_ ?_ ?_ ?_ ?_ ?_)
      · rw [g]; rfl
      · rw [g]; rfl
      · rw [g, s1]; rfl
      · rw [g, s1]; rfl
      · rw [g, s1]; rfl
      · rw [g, s1]; exact hI.j15
      · rw [g, s1]; exact hI.j16
    · have hq2 : oP (.inr (xUo, 2)) V t (sM D, sW D, sI D, sA D, sT D, 0, -1) Q := by
        have h5 := hq
        simp only [if_pos w] at h5
        exact h5
      exact fail m2 (sL D) (-1) 2 hg2.2 (by decide) hq2
end TL
