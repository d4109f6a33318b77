/-! ===== PURE: the reader of the component ===== -/
/-- a byte as the component sees it -/
def sb (n : Nat) : Int32 := (nI n).toInt8.toInt32
theorem sb_lo : ∀ n : Fin 128, sb n.val = nI n.val := by decide +kernel
theorem sb_hi : ∀ n : Fin 128, sb (n.val + 128) < 0 := by decide +kernel
theorem sb_neg {n : Nat} (h : n < 256) (h2 : ¬ n < 128) : sb n < 0 := by
  have := sb_hi ⟨n - 128, by omega⟩
  rw [show n - 128 + 128 = n by omega] at this
  exact this
theorem sb_eq {n c : Nat} (h : n < 256) (hc : c < 128) : sb n = nI c ↔ n = c := by
  by_cases z : n < 128
  · rw [sb_lo ⟨n, z⟩]
    exact nI_eq (by omega) (by omega)
  · constructor
    · intro q
      have := sb_neg h z
      rw [q] at this
      exact absurd this (nI_pos (by omega))
    · intro q; omega
theorem sb_in {n lo hi : Nat} (h : n < 256) (hh : hi < 128) (hl : lo ≤ hi) : inI (sb n) (nI lo) (nI hi) ↔ lo ≤ n ∧ n ≤ hi := by
  unfold inI
  by_cases z : n < 128
  · rw [show sb n = nI n from sb_lo ⟨n, z⟩, nI_ltI (by omega) (by omega), nI_ltI (by omega) (by omega)]
    omega
  · constructor
    · intro q
      have h1 := sb_neg h z
      have h2 : (0 : Int32) ≤ nI lo := nI_pos' (by omega)
      have h3 := Int32.not_lt.mp q.1
      exact absurd (Int32.le_trans h2 h3) (Int32.not_le.mpr h1)
    · intro q; omega
def TxtC (V : Nat → Nat → Int32) (r : Nat) (T : Nat → Nat) (L : Nat) : Prop := L ≤ 400 ∧ V r 2 = nI L ∧ (∀ i, i < L → T i < 256) ∧ ∀ i, i < L → V (r + 1) i = sb (T i)
/-- the reader at a, what comes next began at b, so deep -/
def cx (V : Nat → Nat → Int32) (r a b d : Nat) : Nat → Nat → Int32 := vset (vset (vset V r 3 (nI a)) r 4 (nI b)) r 6 (nI d)
section CX
variable {V : Nat → Nat → Int32} {r a b d a2 b2 d2 L : Nat} {T : Nat → Nat} {Q : Int32 → (Nat → Nat → Int32) → Prop} {P : (Nat → Nat → Int32) → Prop}
theorem cx_j (j : Nat) : cx V r a b d r j = if j = 6 then nI d else if j = 4 then nI b else if j = 3 then nI a else V r j := by
  unfold cx
  rw [vset_at, vset_at, vset_at]
theorem cx_a : cx V r a b d r 3 = nI a := cx_j 3
theorem cx_g : cx V r a b d r 4 = nI b := cx_j 4
theorem cx_d : cx V r a b d r 6 = nI d := cx_j 6
theorem cx_2 : cx V r a b d r 2 = V r 2 := cx_j 2
theorem cx_b {k : Nat} (h : k ≠ r) : cx V r a b d k = V k := by
  unfold cx
  rw [vset_n _ _ _ h, vset_n _ _ _ h, vset_n _ _ _ h]
theorem cxs_a : vset (cx V r a b d) r 3 (nI a2) = cx V r a2 b d := by
  refine vext (k := r) (fun k hk => by rw [vset_n _ _ _ hk, cx_b hk, cx_b hk]) (fun j => ?_)
  rw [vset_at, cx_j, cx_j]
  split
  · next z => rw [z]; rfl
  · rfl
theorem cxs_g : vset (cx V r a b d) r 4 (nI b2) = cx V r a b2 d := by
  refine vext (k := r) (fun k hk => by rw [vset_n _ _ _ hk, cx_b hk, cx_b hk]) (fun j => ?_)
  rw [vset_at, cx_j, cx_j]
  split
  · next z => rw [z]; rfl
  · rfl
theorem cxs_d : vset (cx V r a b d) r 6 (nI d2) = cx V r a b d2 := by
  refine vext (k := r) (fun k hk => by rw [vset_n _ _ _ hk, cx_b hk, cx_b hk]) (fun j => ?_)
  rw [vset_at, cx_j, cx_j]
  split
  · rfl
  · rfl
theorem cxs_o {i : Nat} {y : Int32} (h : i ≠ 3 ∧ i ≠ 4 ∧ i ≠ 6) : vset (cx V r a b d) r i y = cx (vset V r i y) r a b d := by
  refine vext (k := r) (fun k hk => by rw [vset_n _ _ _ hk, cx_b hk, cx_b hk, vset_n _ _ _ hk]) (fun j => ?_)
  rw [vset_at, cx_j, cx_j, vset_at]
  by_cases z : j = i
  · rw [if_pos z, if_pos z, if_neg (by omega), if_neg (by omega), if_neg (by omega)]
  · rw [if_neg z, if_neg z]
theorem cxs_b {k i : Nat} {y : Int32} (h : k ≠ r) : vset (cx V r a b d) k i y = cx (vset V k i y) r a b d := by
  refine vext (k := r) (fun k2 hk => ?_) (fun j => ?_)
  · rw [cx_b hk]
    by_cases z : k2 = k
    · subst z
      rw [vset_s, vset_s, cx_b hk]
    · rw [vset_n _ _ _ z, vset_n _ _ _ z, cx_b hk]
  · rw [vset_n _ _ _ h.symm, cx_j, cx_j, vset_n _ _ _ h.symm]
theorem cx_id (h1 : V r 3 = nI a) (h2 : V r 4 = nI b) (h3 : V r 6 = nI d) : cx V r a b d = V := by
  unfold cx
  rw [vset_id h1, vset_id h2, vset_id h3]
theorem s3_byteAt {Q : Int32 → Prop} {i : Nat} (hT : TxtC V r T L) (hi : i < 1000000) (hq : if i < L then Q (sb (T i)) else Q (-1)) : wX3_byteAt r (cx V r a b d) (nI i) Q := by
  obtain ⟨h1, h2, h3, h4⟩ := hT
  unfold wX3_byteAt
  rw [cx_2, h2, cx_b (by omega)]
  split at hq
  · next z => exact br_f (nI_ge z (by omega)) ⟨vp_in_nI (by omega) (by decide), by rw [nI_clamp (by omega), h4 i z]; exact hq⟩
  · next z => exact br_t (nI_le (by omega) (by omega)) hq
theorem s3_blanks (hT : TxtC V r T L) (ha : a < 100000) (hq : P (cx V r (sk T L a) (sk T L a) d)) : wX3_blanks r (cx V r a b d) P := by
  have hL := hT.1
  suffices H : ∀ u a, L - a = u → a < 100000 → P (cx V r (sk T L a) (sk T L a) d) → wX3_blanks_0 r P (u + 1) (cx V r a b d) from ⟨_, H _ a rfl ha hq⟩
  intro u
  induction u with
  | zero =>
    intro a hr ha hq
    rw [wX3_blanks_0, cx_a]
    refine s3_byteAt hT (by omega) ?_
    rw [if_neg (by omega)]
    rw [show sk T L a = a from rn_no (by omega)] at hq
    refine ⟨fun _ => nm_e ?_, fun z => absurd z (by decide)⟩
    rw [cxs_g]
    exact hq
  | succ u ih =>
    intro a hr ha hq
    rw [wX3_blanks_0, cx_a]
    refine s3_byteAt hT (by omega) ?_
    rw [if_pos (by omega)]
    have h256 := hT.2.2.1 a (by omega)
    refine ⟨fun z => nm_e ?_, fun z => nm_r (nI_1 a) ?_⟩
    · rw [show sk T L a = a from rn_no (fun q => z ((sb_eq h256 (c := 32) (by decide)).mpr (of_decide_eq_true (p := T a = 32) q.2)))] at hq
      rw [cxs_g]
      exact hq
    · rw [show sk T L a = sk T L (a + 1) from rn_yes (by omega) (decide_eq_true ((sb_eq h256 (c := 32) (by decide)).mp z))] at hq
      rw [cxs_a]
      exact ih (a + 1) (by omega) (by omega) hq
theorem s3_isOver (hT : TxtC V r T L) (ha : a ≤ L) (hq : if sk T L a = L then Q 1 (cx V r (sk T L a) (sk T L a) d) else Q 0 (cx V r (sk T L a) (sk T L a) d)) : wX3_isOver r (cx V r a b d) Q := by
  have hL := hT.1
  have hs := sk_le (T := T) ha
  refine s3_blanks hT (by omega) ?_
  rw [cx_a, cx_2, hT.2.1]
  refine ⟨fun z => ?_, fun z => ?_⟩
  · rw [if_neg (fun q => z (by rw [q]))] at hq; exact hq
  · rw [if_pos ((nI_eq (by omega) (by omega)).mp z)] at hq; exact hq
theorem s3_sign {c : Nat} (hc : c < 128) (hT : TxtC V r T L) (ha : a ≤ L) (hq : if isS c T L a = true then Q 1 (cx V r (sk T L a + 1) (sk T L a) d) else Q 0 (cx V r (sk T L a) (sk T L a) d)) : wX3_sign r (cx V r a b d) (nI c) Q := by
  have hL := hT.1
  have hs := sk_le (T := T) ha
  refine s3_blanks hT (by omega) ?_
  rw [cx_a]
  refine s3_byteAt hT (by omega) ?_
  split
  · next z =>
    have h256 := hT.2.2.1 _ z
    refine ⟨fun z2 => nm_r (nI_1 _) ?_, fun z2 => ?_⟩
    · rw [if_pos (isS_iff.mpr ⟨z, (sb_eq h256 hc).mp z2⟩)] at hq
      rw [cxs_a]; exact hq
    · rw [if_neg (fun q => z2 ((sb_eq h256 hc).mpr (isS_iff.mp q).2))] at hq
      exact hq
  · next z =>
    rw [if_neg (fun q => z (isS_iff.mp q).1)] at hq
    exact ⟨fun z2 => absurd z2.symm (nI_nm1 (by omega)), fun _ => hq⟩
theorem s3_isFigure (hT : TxtC V r T L) (ha : a ≤ L) (hq : if sk T L a < L ∧ pFi (T (sk T L a)) = true then Q 1 (cx V r (sk T L a) (sk T L a) d) else Q 0 (cx V r (sk T L a) (sk T L a) d)) : wX3_isFigure r (cx V r a b d) Q := by
  have hL := hT.1
  have hs := sk_le (T := T) ha
  refine s3_blanks hT (by omega) ?_
  rw [cx_a]
  refine s3_byteAt hT (by omega) ?_
  split
  · next z =>
    have h256 := hT.2.2.1 _ z
    refine s1_in ⟨jz_b, ?_⟩
    have e : inI (sb (T (sk T L a))) (48 : Int32) (57 : Int32) ↔ _ := sb_in (n := T (sk T L a)) (lo := 48) (hi := 57) h256 (by decide) (by decide)
    by_cases w : pFi (T (sk T L a)) = true
    · rw [if_pos ⟨z, w⟩] at hq
      rw [b2i_t (e.mpr (pFi_iff.mp w))]; exact hq
    · rw [if_neg (fun q => w q.2)] at hq
      rw [b2i_f (fun q => w (pFi_iff.mpr (e.mp q)))]; exact hq
  · next z =>
    rw [if_neg (fun q => z q.1)] at hq
    exact s1_in ⟨jz_b, by rw [b2i_f (by decide)]; exact hq⟩
end CX
