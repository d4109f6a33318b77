/-! ===== PURE: the twin reads the ground's lines ===== -/
/-- the twin's reader over the row m -/
def tm (V : Nat → Nat → Int32) (t : Nat) (m : Row) (a : Nat) (f : Int32) (d : Nat) : Nat → Nat → Int32 := tx (vrow V (t + 1) m) t a f d
section TG
variable {sh : List jH} {R : Nat → Nat → Option Nat} {V : Nat → Nat → Int32} {t L a b d : Nat} {f : Int32} {T : Nat → Nat} {m : Row} {Q : Int32 → (Nat → Nat → Int32) → Prop} {P : (Nat → Nat → Int32) → Prop}
theorem tm_row : tm V t m a f d (t + 1) = m := by
  unfold tm
  rw [tx_b (by omega), vrow_s]
theorem tm_set {k : Nat} {y : Int32} : vset (tm V t m a f d) (t + 1) k y = tm V t (upd m k y) a f d := by
  unfold tm
  rw [txs_b (by omega), vset_row]
theorem tm_f : tm V t m a f d t 12 = f := tx_f
theorem tm_a : tm V t m a f d t 11 = nI a := tx_a
theorem txt_row (hT : TxtT V t T L) (h9 : V t 9 = -1) : TxtT (vrow V (t + 1) m) t T L := by
  obtain ⟨h1, h2, h3, h4⟩ := hT
  refine ⟨h1, by rw [vrow_n _ _ (by omega)]; exact h2, h3, Or.inl ⟨by rw [vrow_n _ _ (by omega)]; exact h9, ?_⟩⟩
  rw [vrow_n _ _ (by omega)]
  rcases h4 with h4 | h4
  · exact h4.2
  · rw [h9] at h4
    exact absurd h4.1 (by decide)
theorem s6_putG {h w : Nat} {v : Int32} (hh : h < 8) (hw : w < 4) (hq : P (tm V t (upd m (11 + 4 * h + w) v) a f d)) : wX6_put t (tm V t m a f d) (nI h) (nI w) v P := by
  unfold wX6_put
  rw [show (11 : Int32) + 4 * nI h + nI w = nI (11 + 4 * h + w) from p_ix3 11 4 h w, nI_clamp (by omega), tm_set]
  exact ⟨vp_in_nI (by omega) (by decide), hq⟩
theorem s6_hostLine (hC : ConSh sh) (hT : TxtT V t T L) (h9 : V t 9 = -1) (hR : RowOk m) (hb : b ≤ L) (ha : a ≤ L) (hq : pO (gHost T L b m a) (fun b => ∀ a2, a2 ≤ L → P (tm V t m a2 (nI b) d)) (fun m2 e => P (tm V t m2 e (-1) d))) : wX6_hostLine t sh R (tm V t m a (-1) d) (nI b) P := by
  have hL := hT.1
  have h8 := hR.H8
  have hTm : TxtT (vrow V (t + 1) m) t T L := txt_row hT h9
  unfold wX6_hostLine
  rw [tm_row, hR.H]
  unfold gHost at hq
  by_cases z : nH m = 8
  · rw [if_pos z] at hq
    refine ⟨fun q => absurd (by rw [z]; rfl) q, fun _ => s6_fwrong ?_⟩
    rw [if_pos rfl]
    refine s6_afterF (f_ne (by omega)) (s6_hoursF (f_ne (by omega)) (fun v => ?_))
    rw [tx_f]
    exact ⟨fun q => absurd q (f_ne (by omega)), fun _ => hq a ha⟩
  · rw [if_neg z] at hq
    refine ⟨fun _ => s6_after (w := tw 8) (by decide) (fun V R => str_8 hC.g) hTm ha (pO_mono (pO_and (pO_B hq) (pAfter_le ha)) (fun b2 h v a2 hv ha2 => ?_) (fun p e h => ?_)), fun q => absurd ((nI_eq (b := 8) (by omega) (by decide)).mp q) z⟩
    · have hb2 : b2 ≤ L := h.2
      refine s6_hoursF (f_ne (by omega)) (fun v => ?_)
      rw [tx_f]
      exact ⟨fun q => absurd q (f_ne (by omega)), fun _ => h.1 a2 ha2⟩
    · refine s6_hours hC hTm h.2.2.1 (pO_mono (pO_and (pO_B h.1) (pHours_le h.2.2.1)) (fun b2 h2 v a2 ha2 => ?_) (fun hr e2 h2 => ?_))
      · have hb2 : b2 ≤ L := h2.2
        rw [tx_f]
        exact ⟨fun q => absurd q (f_ne (by omega)), fun _ => h2.1 a2 ha2⟩
      · rw [tx_f]
        refine br_t rfl (nm_r (e' := nI (nH m)) ((congrFun (tm_row (V := V) (m := m) (a := e2) (f := -1) (d := d)) 3).trans hR.H) ?_)
        refine s6_putG (w := 0) (by omega) (by decide) (s6_putG (w := 1) (by omega) (by decide) (s6_putG (w := 2) (by omega) (by decide) (s6_putG (w := 3) (by omega) (by decide) ?_)))
        rw [tm_row]
        refine nm_r (e' := m 3 + 1) (by rw [upd_n (by omega), upd_n (by omega), upd_n (by omega), upd_n (by omega)]) ?_
        rw [tm_set]
        exact h2.1
theorem s6_guestLine (hC : ConSh sh) (hT : TxtT V t T L) (h9 : V t 9 = -1) (hR : RowOk m) (hb : b ≤ L) (ha : a ≤ L) (hq : pO (gGuest T L b m a) (fun b => ∀ a2, a2 ≤ L → P (tm V t m a2 (nI b) d)) (fun m2 e => P (tm V t m2 e (-1) d))) : wX6_guestLine t sh R (tm V t m a (-1) d) (nI b) P := by
  have hL := hT.1
  have g8 := hR.G8
  have hTm : TxtT (vrow V (t + 1) m) t T L := txt_row hT h9
  have bad : ∀ b2 a2 x2 x3 s, b2 ≤ L → P (tm V t m a2 (nI b2) d) → wX6_guestLine_55 t sh R (nI b) P (tm V t m a2 (nI b2) d) x2 x3 s := by
    intro b2 a2 x2 x3 s h h2
    unfold wX6_guestLine_55
    rw [tm_f]
    exact ⟨fun q => absurd q (f_ne (by omega)), fun _ => h2⟩
  have fin : nG m < 8 → ∀ e st op mk, P (tm V t (guestR m st op mk) e (-1) d) → wX6_guestLine_55 t sh R (nI b) P (tm V t m e (-1) d) (nI st) (nI op) mk := by
    intro hlt e st op mk h
    unfold wX6_guestLine_55
    rw [tm_f, tm_row]
    refine br_t rfl (nm_r (e' := nI (43 + 3 * nG m)) (by rw [hR.G]; exact p_ix 43 3 (nG m)) ?_)
    rw [show nI (43 + 3 * nG m) + (0 : Int32) = nI (43 + 3 * nG m + 0) from nI_add _ 0, show nI (43 + 3 * nG m) + (1 : Int32) = nI (43 + 3 * nG m + 1) from nI_add _ 1, show nI (43 + 3 * nG m) + (2 : Int32) = nI (43 + 3 * nG m + 2) from nI_add _ 2, nI_clamp (n := 43 + 3 * nG m + 0) (by omega), nI_clamp (n := 43 + 3 * nG m + 1) (by omega), nI_clamp (n := 43 + 3 * nG m + 2) (by omega), tm_set, tm_set, tm_set, tm_row]
    refine ⟨vp_in_nI (by omega) (by decide), vp_in_nI (by omega) (by decide), vp_in_nI (by omega) (by decide), nm_r (e' := m 4 + 1) (by rw [upd_n (by omega), upd_n (by omega), upd_n (by omega)]) ?_⟩
    rw [tm_set]
    exact h
  unfold wX6_guestLine
  rw [tm_row, hR.G]
  unfold gGuest at hq
  by_cases z : nG m = 8
  · rw [if_pos z] at hq
    refine ⟨fun q => absurd (by rw [z]; rfl) q, fun _ => s6_fwrong ?_⟩
    rw [if_pos rfl]
    refine s6_afterF (f_ne (by omega)) (s6_hoursF (f_ne (by omega)) (fun v => ?_))
    rw [tx_f]
    exact ⟨fun _ => bad _ _ _ _ _ hb (hq a ha), fun q => absurd q (f_ne (by omega))⟩
  · rw [if_neg z] at hq
    refine ⟨fun _ => s6_after (w := tw 11) (by decide) (fun V R => str_11 hC.g) hTm ha (pO_mono (pO_and (pO_B hq) (pAfter_le ha)) (fun b2 h v a2 hv ha2 => ?_) (fun p e h => ?_)), fun q => absurd ((nI_eq (b := 8) (by omega) (by decide)).mp q) z⟩
    · have hb2 : b2 ≤ L := h.2
      refine s6_hoursF (f_ne (by omega)) (fun v => ?_)
      rw [tx_f]
      exact ⟨fun _ => bad _ _ _ _ _ hb2 (h.1 a2 ha2), fun q => absurd q (f_ne (by omega))⟩
    · refine s6_hours hC hTm h.2.2.1 (pO_mono (pO_and (pO_B h.1) (pHours_le h.2.2.1)) (fun b2 h2 v a2 ha2 => ?_) (fun op e2 h2 => ?_))
      · have hb2 : b2 ≤ L := h2.2
        rw [tx_f]
        exact ⟨fun _ => bad _ _ _ _ _ hb2 (h2.1 a2 ha2), fun q => absurd q (f_ne (by omega))⟩
      · have he2 : e2 ≤ L := h2.2.2.1
        have hq2 := pO_B h2.1
        rw [tx_f]
        refine ⟨fun q => absurd rfl q, fun _ => s6_has (w := tw 12) (by decide) (fun V R => str_12 hC.g) hTm (by omega) ?_⟩
        unfold gMarks at hq2
        by_cases z1 : isW (tw 12) T L e2 = true
        · rw [if_pos z1] at hq2 ⊢
          have h3 := afW_le (w := tw 12) (T := T) he2
          refine br_f (by decide) (s6_letters hTm h3 (pO_mono (pO_and hq2 (pLet_le h3)) (fun b2 h4 v a2 ha2 => bad _ _ _ _ _ h4.2 (h4.1 a2 ha2)) (fun s e3 h4 => fin (by omega) _ _ _ _ h4.1)))
        · rw [if_neg z1] at hq2 ⊢
          rw [afW_no z1]
          exact br_t rfl (fin (by omega) _ _ _ 0 hq2)
theorem fig_step {K k : Nat} : upd (figR m T b K k) (K + k) (nI (T (b + k)) - 48) = figR m T b K (k + 1) := by
  funext j
  by_cases z : j = K + k
  · subst z
    rw [upd_s]
    unfold figR
    rw [if_pos (by omega), show b + (K + k - K) = b + k by omega]
  · rw [upd_n z]
    unfold figR
    by_cases z2 : K ≤ j ∧ j < K + k
    · rw [if_pos z2, if_pos (by omega)]
    · rw [if_neg z2, if_neg (by omega)]
theorem fig_0 {K : Nat} : figR m T b K 0 = m := by
  funext j
  unfold figR
  rw [if_neg (by omega)]
theorem s6_ranksLine {k0 many n : Nat} (hT : TxtT V t T L) (h9 : V t 9 = -1) (hmany : many ≤ 8) (hn : n ≤ 8) (hk0 : k0 ≤ 131) (ha : a ≤ L) (hq : pO (gRanks T L m k0 many n a) (fun b => ∀ a2, a2 ≤ L → P (tm V t m a2 (nI b) d)) (fun m2 e => P (tm V t m2 e (-1) d))) : wX6_ranksLine t (tm V t m a (-1) d) (nI k0) (nI many) (nI n) P := by
  have hL := hT.1
  have hTm : ∀ {m : Row}, TxtT (vrow V (t + 1) m) t T L := txt_row hT h9
  unfold gRanks at hq
  unfold wX6_ranksLine
  refine s6_figures hTm ha (pO_mono (pO_and (pO_B hq) (pNum_le ha)) (fun b2 h v a2 hv ha2 => ?_) (fun x e h => ?_))
  · have hb2 : b2 ≤ L := h.2
    refine s6_here hTm (by omega) ⟨1, ?_⟩
    have h1 : P (tm V t m (sk T L a2) (nI b2) d) := h.1 _ (sk_le ha2)
    have m76 : ∀ x4 x5 x6, wX6_ranksLine_76 t (nI k0) (nI many) (nI n) P (tx (vrow V (t + 1) m) t (sk T L a2) (nI b2) d) x4 x5 x6 := by
      intro x4 x5 x6
      unfold wX6_ranksLine_76
      rw [tx_f]
      exact ⟨fun q => absurd q (f_ne (by omega)), fun _ => h1⟩
    rw [wX6_ranksLine_19, tx_f]
    refine ⟨fun _ => ⟨fun _ => m76 _ _ _, fun _ => s6_fwrong ?_⟩, fun q => absurd q (f_ne (by omega))⟩
    rw [if_neg (f_ne (by omega))]
    exact m76 _ _ _
  · obtain ⟨hq2, hae, heL, hx, hin⟩ := h
    have hxm : x < many := by
      obtain ⟨k, hk1, hk2⟩ := (inI_nat (by omega)).mp hin
      have := nI_inj (by omega) (by omega) hk2
      omega
    refine s6_here hTm (by omega) ?_
    have hs := sk_le (T := T) heL
    have hf := fg_le (T := T) hs
    have hfg := fg_ge (T := T) (L := L) (a := sk T L e)
    obtain ⟨b, hbe⟩ : ∃ b, b = sk T L e := ⟨_, rfl⟩
    rw [← hbe] at hq2 hs hf hfg ⊢
    have wr : ∀ k, k ≤ n → (∀ i, i < n → b + i < L) → P (tm V t (figR m T b (k0 + 8 * x) n) (b + n) (-1) d) → ∀ r, k + r = n → wX6_ranksLine_88 t (nI k0) (nI many) (nI n) P (r + 1) (tm V t (figR m T b (k0 + 8 * x) k) b (-1) d) (nI x) (nI b) (nI n) (nI k) := by
      intro k hk hi hP r
      induction r generalizing k with
      | zero =>
        intro hr
        obtain rfl : k = n := by omega
        rw [wX6_ranksLine_88]
        refine br_t (Int32.le_refl _) (nm_r (nI_add _ _) ?_)
        unfold tm
        rw [txs_a]
        exact hP
      | succ r ih =>
        intro hr
        rw [wX6_ranksLine_88]
        refine br_f (nI_ge (by omega) (by omega)) ?_
        rw [nI_add]
        refine s6_letter hTm (hi k (by omega)) (nm_e ?_)
        rw [show nI k0 + (8 : Int32) * nI x + nI k = nI (k0 + 8 * x + k) from p_ix3 k0 8 x k, nI_clamp (by omega)]
        refine ⟨vp_in_nI (by omega) (by decide), nm_r (nI_1 k) ?_⟩
        rw [tm_set, fig_step]
        exact ih (k + 1) (by omega) (by omega)
    have m64 : ∀ j, b + j = fg T L b → wX6_ranksLine_64 t (nI k0) (nI many) (nI n) P (tm V t m b (-1) d) (nI x) (nI b) (nI j) := by
      intro j hj
      refine ⟨fun q => ?_, fun q => s6_fwrong ?_⟩
      · obtain rfl : j = n := (nI_eq (by omega) (by omega)).mp q
        rw [if_pos hj.symm] at hq2
        have hq3 : P (tm V t (figR m T b (k0 + 8 * x) j) (fg T L b) (-1) d) := hq2
        unfold wX6_ranksLine_76
        rw [tm_f]
        refine br_t rfl ⟨j + 1, ?_⟩
        have h5 := wr 0 (Nat.zero_le _) (fun i hi => by omega) (by rw [hj]; exact hq3) j (by omega)
        rw [fig_0] at h5
        exact h5
      · rw [if_pos rfl]
        rw [if_neg (fun q2 => q (by rw [show j = n by omega]))] at hq2
        unfold wX6_ranksLine_76
        rw [tx_f]
        exact ⟨fun q => absurd q (f_ne (by omega)), fun _ => hq2 b hs⟩
    suffices H : ∀ r j, b + j + r = fg T L b → wX6_ranksLine_19 t (nI k0) (nI many) (nI n) P (r + 1) (tm V t m b (-1) d) (nI x) (nI b) (nI j) from ⟨_, H (fg T L b - b) 0 (by omega)⟩
    intro r
    induction r with
    | zero =>
      intro j hj
      rw [wX6_ranksLine_19, tm_f, nI_add]
      refine ⟨fun q => absurd rfl q, fun _ => ?_⟩
      rw [show tm V t m b (-1) d t 10 = nI L from tx_10 hTm]
      refine br_c (fun _ => m64 j hj) (fun q => ?_)
      have hlt : b + j < L := Classical.byContradiction fun q2 => q (nI_le (by omega) (by omega))
      refine s6_letter hTm hlt (s6_isIn (p_bz ?_))
      have e1 : pFi (T (b + j)) = false := by
        have := rn_end (p := pFi) (T := T) (L := L) (k := L - b) (a := b) rfl (by show fg T L b < L; omega)
        rw [show rn pFi T (L - b) b = b + j from hj.symm] at this
        exact this
      rw [if_neg (fun q => by rw [(inI_fi (hT.2.2.1 _ hlt)).mp q] at e1; cases e1)]
      exact m64 j hj
    | succ r ih =>
      intro j hj
      have hlt : b + j < L := by omega
      rw [wX6_ranksLine_19, tm_f, nI_add]
      refine ⟨fun q => absurd rfl q, fun _ => ?_⟩
      rw [show tm V t m b (-1) d t 10 = nI L from tx_10 hTm]
      refine br_f (nI_ge hlt (by omega)) (s6_letter hTm hlt (s6_isIn (p_bz ?_)))
      rw [if_pos ((inI_fi (hT.2.2.1 _ hlt)).mpr (rn_mem (p := pFi) (T := T) (k := L - b) (a := b) (by omega) (by show b + j < fg T L b; omega)))]
      exact nm_r (nI_1 j) (ih (j + 1) (by omega))
theorem s6_tellsG {k : Nat} {lo hi : Int32} (hT : TxtT V t T L) (h9 : V t 9 = -1) (hk : k < 1019) (ha : a ≤ L) (hq : pO (gTells T L m k lo hi a) (fun b => ∀ a2, a2 ≤ L → P (tm V t m a2 (nI b) d)) (fun m2 e => P (tm V t m2 e (-1) d))) : wX6_tells t (tm V t m a (-1) d) (nI k) lo hi P := by
  have hL := hT.1
  have hTm : TxtT (vrow V (t + 1) m) t T L := txt_row hT h9
  unfold gTells at hq
  unfold wX6_tells
  refine s6_figures hTm ha (pO_mono (pO_and (pO_B hq) (pNum_le ha)) (fun b2 h v a2 hv ha2 => ?_) (fun x e h => ?_))
  · have hb2 : b2 ≤ L := h.2
    rw [tx_f]
    exact ⟨fun _ => h.1 a2 ha2, fun q => absurd q (f_ne (by omega))⟩
  · rw [tx_f]
    refine ⟨fun q => absurd rfl q, fun _ => ⟨vp_in_nI hk (by decide), ?_⟩⟩
    rw [nI_clamp (by omega)]
    have e1 := tm_set (V := V) (t := t) (m := m) (a := e) (f := -1) (d := d) (k := k) (y := nI x)
    unfold tm at e1
    rw [e1]
    exact h.1
theorem s6_letG {k : Nat} (hT : TxtT V t T L) (h9 : V t 9 = -1) (ha : a ≤ L) (hq : pO (gLet T L m k a) (fun b => ∀ a2, a2 ≤ L → P (tm V t m a2 (nI b) d)) (fun m2 e => P (tm V t m2 e (-1) d))) : wX6_letters t (tm V t m a (-1) d) (fun r V1 => ((¬ (V1 t 12) = (-1 : Int32) → P V1) ∧ ((V1 t 12) = (-1 : Int32) → P (vset V1 (t + 1) k r)))) := by
  have hL := hT.1
  have hTm : TxtT (vrow V (t + 1) m) t T L := txt_row hT h9
  unfold gLet at hq
  refine s6_letters hTm ha (pO_mono (pO_and (pO_B hq) (pLet_le ha)) (fun b2 h v a2 ha2 => ?_) (fun x e h => ?_))
  · have hb2 : b2 ≤ L := h.2
    rw [tx_f]
    exact ⟨fun _ => h.1 a2 ha2, fun q => absurd q (f_ne (by omega))⟩
  · rw [tx_f]
    refine ⟨fun q => absurd rfl q, fun _ => ?_⟩
    have e1 := tm_set (V := V) (t := t) (m := m) (a := e) (f := -1) (d := d) (k := k) (y := x)
    unfold tm at e1
    rw [e1]
    exact h.1
theorem s6_groundLine (hC : ConSh sh) (hT : TxtT V t T L) (h9 : V t 9 = -1) (hR : RowOk m) (ha : a ≤ L) (hq : pO (gLine T L m a) (fun b => ∀ a2, a2 ≤ L → P (tm V t m a2 (nI b) d)) (fun m2 e => P (tm V t m2 e (-1) d))) : wX6_groundLine t sh R (tm V t m a (-1) d) P := by
  have hL := hT.1
  have h8 := hR.H8
  have g8 := hR.G8
  have hTm : TxtT (vrow V (t + 1) m) t T L := txt_row hT h9
  have hs := sk_le (T := T) ha
  have hw := wd_le (T := T) hs
  have none : gKind T L a = none → P (tm V t m (sk T L a) (nI (sk T L a)) d) := by
    intro h
    unfold gLine at hq
    rw [h] at hq
    exact hq _ hs
  have some : ∀ k, gKind T L a = some k → pO (if k = 0 then gHost T L (sk T L a) m (wd T L (sk T L a)) else if k = 1 then gGuest T L (sk T L a) m (wd T L (sk T L a)) else if k = 2 then gRanks T L m 67 (nH m) (nG m) (wd T L (sk T L a)) else if k = 3 then gRanks T L m 131 (nG m) (nH m) (wd T L (sk T L a)) else if k = 4 then gTells T L m 5 0 100 (wd T L (sk T L a)) else if k = 5 then gTells T L m 6 0 999 (wd T L (sk T L a)) else if k = 6 then gLet T L m 7 (wd T L (sk T L a)) else gLet T L m 8 (wd T L (sk T L a))) (fun b => ∀ a2, a2 ≤ L → P (tm V t m a2 (nI b) d)) (fun m2 e => P (tm V t m2 e (-1) d)) := by
    intro k h
    unfold gLine at hq
    rw [h] at hq
    exact hq
  unfold gKind at none some
  unfold wX6_groundLine
  refine s6_here hTm (by omega) (s6_has (w := tw 0) (by decide) (fun V R => str_0 hC.g) hTm (by omega) ?_)
  rw [isW_sk, afW_sk]
  by_cases z0 : isW (tw 0) T L a = true
  · rw [if_pos z0, afW_yes z0]
    exact br_f (by decide) (s6_hostLine hC hT h9 hR hs hw (some 0 (if_pos z0)))
  rw [if_neg z0, afW_no z0]
  refine br_t rfl (s6_has (w := tw 1) (by decide) (fun V R => str_1 hC.g) hTm (by omega) ?_)
  rw [isW_sk, afW_sk]
  by_cases z1 : isW (tw 1) T L a = true
  · rw [if_pos z1, afW_yes z1]
    exact br_f (by decide) (s6_guestLine hC hT h9 hR hs hw (some 1 (by rw [if_neg z0, if_pos z1])))
  rw [if_neg z1, afW_no z1]
  refine br_t rfl (s6_has (w := tw 2) (by decide) (fun V R => str_2 hC.g) hTm (by omega) ?_)
  rw [isW_sk, afW_sk]
  by_cases z2 : isW (tw 2) T L a = true
  · rw [if_pos z2, afW_yes z2]
    refine br_f (by decide) ?_
    rw [show tx (vrow V (t + 1) m) t (wd T L (sk T L a)) (-1) d (t + 1) = m from tm_row, hR.H, hR.G]
    exact s6_ranksLine (k0 := 67) hT h9 h8 g8 (by decide) hw (some 2 (by rw [if_neg z0, if_neg z1, if_pos z2]))
  rw [if_neg z2, afW_no z2]
  refine br_t rfl (s6_has (w := tw 3) (by decide) (fun V R => str_3 hC.g) hTm (by omega) ?_)
  rw [isW_sk, afW_sk]
  by_cases z3 : isW (tw 3) T L a = true
  · rw [if_pos z3, afW_yes z3]
    refine br_f (by decide) ?_
    rw [show tx (vrow V (t + 1) m) t (wd T L (sk T L a)) (-1) d (t + 1) = m from tm_row, hR.H, hR.G]
    exact s6_ranksLine (k0 := 131) hT h9 g8 h8 (by decide) hw (some 3 (by rw [if_neg z0, if_neg z1, if_neg z2, if_pos z3]))
  rw [if_neg z3, afW_no z3]
  refine br_t rfl (s6_has (w := tw 4) (by decide) (fun V R => str_4 hC.g) hTm (by omega) ?_)
  rw [isW_sk, afW_sk]
  by_cases z4 : isW (tw 4) T L a = true
  · rw [if_pos z4, afW_yes z4]
    exact br_f (by decide) (s6_tellsG (k := 5) hT h9 (by decide) hw (some 4 (by rw [if_neg z0, if_neg z1, if_neg z2, if_neg z3, if_pos z4])))
  rw [if_neg z4, afW_no z4]
  refine br_t rfl (s6_has (w := tw 5) (by decide) (fun V R => str_5 hC.g) hTm (by omega) ?_)
  rw [isW_sk, afW_sk]
  by_cases z5 : isW (tw 5) T L a = true
  · rw [if_pos z5, afW_yes z5]
    exact br_f (by decide) (s6_tellsG (k := 6) hT h9 (by decide) hw (some 5 (by rw [if_neg z0, if_neg z1, if_neg z2, if_neg z3, if_neg z4, if_pos z5])))
  rw [if_neg z5, afW_no z5]
  refine br_t rfl (s6_has (w := tw 6) (by decide) (fun V R => str_6 hC.g) hTm (by omega) ?_)
  rw [isW_sk, afW_sk]
  by_cases z6 : isW (tw 6) T L a = true
  · rw [if_pos z6, afW_yes z6]
    exact br_f (by decide) (s6_letG (k := 7) hT h9 hw (some 6 (by rw [if_neg z0, if_neg z1, if_neg z2, if_neg z3, if_neg z4, if_neg z5, if_pos z6])))
  rw [if_neg z6, afW_no z6]
  refine br_t rfl (s6_has (w := tw 7) (by decide) (fun V R => str_7 hC.g) hTm (by omega) ?_)
  rw [isW_sk, afW_sk]
  by_cases z7 : isW (tw 7) T L a = true
  · rw [if_pos z7, afW_yes z7]
    exact br_f (by decide) (s6_letG (k := 8) hT h9 hw (some 7 (by rw [if_neg z0, if_neg z1, if_neg z2, if_neg z3, if_neg z4, if_neg z5, if_neg z6, if_pos z7])))
  rw [if_neg z7, afW_no z7]
  refine br_t rfl ?_
  rw [tx_a]
  refine s6_fwrong ?_
  rw [if_pos rfl]
  exact none (by rw [if_neg z0, if_neg z1, if_neg z2, if_neg z3, if_neg z4, if_neg z5, if_neg z6, if_neg z7])
end TG
