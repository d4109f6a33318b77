/-! ===== PURE: the twin asks the law: let in, joy, would meet ===== -/
section TX10
variable {sh : List jH} {R : Nat → Nat → Option Nat} {V : Nat → Nat → Int32} {t h g q : Nat} {law : Option (List Ln)} {Q : Int32 → (Nat → Nat → Int32) → Prop} {P : (Nat → Nat → Int32) → Prop}
theorem Fsc_eq {S : Nat → Nat → Int32} {m : Nat → Int32} (e0 : S (t + 6) 0 = nI h) (e1 : S (t + 6) 1 = nI g) (e2 : S (t + 6) 2 = nI q) (e3 : S (t + 6) 3 = m (14 + 4 * h)) (e4 : S (t + 6) 4 = m (67 + 8 * h + g)) (e5 : S (t + 6) 5 = m (131 + 8 * g + h)) (e6 : S (t + 6) 6 = m 6) (e7 : S t 15 = b2i (f_marked m (m (45 + 3 * g)))) (e8 : S t 16 = b2i (m (195 + 8 * h + q) = nI g)) : Fx S t = Fsc m h g q := by
  funext j
  unfold Fx
  match j with
  | 0 => exact e0
  | 1 => exact e1
  | 2 => exact e2
  | 3 => exact e3
  | 4 => exact e4
  | 5 => exact e5
  | 6 => exact e6
  | 7 => exact e7
  | j + 8 => 
    rw [if_neg (by omega), if_neg (by omega)]
    exact e8
theorem s6_asks (hC : ConSh sh) (hR : RowOk (V (t + 1))) (hL : LawT (V (t + 1)) law) (h16 : jz (V t 16)) (hh : h < 8) (hg : g < 8) (hqq : q < 8) (hq : ∀ V', AskF V t V' → V' t 15 = b2i (f_marked (V (t + 1)) (V (t + 1) (45 + 3 * g))) → V' t 17 = (f_ask (V (t + 1)) law h g q).1 → V' t 18 = (f_ask (V (t + 1)) law h g q).2.1 → V' t 19 = (f_ask (V (t + 1)) law h g q).2.2 → P V') : wX6_asks t sh R V (nI h) (nI g) (nI q) P := by
  unfold wX6_asks
  generalize hV1 : vset (vset (vset V t 17 (0 : Int32)) t 18 (0 : Int32)) t 19 (0 : Int32) = V1
  have m1 : V1 (t + 1) = V (t + 1) := by rw [← hV1, vset_n _ _ _ (by omega), vset_n _ _ _ (by omega), vset_n _ _ _ (by omega)]
  refine s6_ofGuest (w := 2) hg (by decide) (s6_passes ⟨jz_b, ?_⟩)
  rw [m1, show 43 + 3 * g + 2 = 45 + 3 * g by omega]
  generalize hmk : b2i (f_marked (V (t + 1)) (V (t + 1) (45 + 3 * g))) = mk9
  have jmk : jz mk9 := by rw [← hmk]; exact jz_b
  generalize hV2 : vset V1 t 15 mk9 = V2
  have m2 : V2 (t + 1) = V (t + 1) := by rw [← hV2, vset_n _ _ _ (by omega), m1]
  have v2o : ∀ b, b ≠ t → V2 b = V b := fun b hb => by rw [← hV2, ← hV1, vset_n _ _ _ hb, vset_n _ _ _ hb, vset_n _ _ _ hb, vset_n _ _ _ hb]
  have v2j : ∀ j, V2 t j = if j = 15 then mk9 else if j = 19 then 0 else if j = 18 then 0 else if j = 17 then 0 else V t j := fun j => by rw [← hV2, vset_at, ← hV1, vset_at, vset_at, vset_at]
  rw [m2]
  rcases law with _ | ls
  · have hm : V (t + 1) 1 = -1 := hL
    rw [hm]
    refine br_f (by decide) (hq V2 ⟨fun b hb _ => v2o b hb, fun j hj => ?_, ?_, ?_⟩ ?_ ?_ ?_ ?_)
    · rw [v2j, if_neg (by omega), if_neg (by omega), if_neg (by omega), if_neg (by omega)]
    · rw [v2j]; exact jmk
    · rw [v2j]; exact h16
    · rw [v2j, hmk]; rfl
    · rw [v2j]; rfl
    · rw [v2j]; rfl
    · rw [v2j]; rfl
  · obtain ⟨T, L, e, hL4, hm1, hm2, hm3, hp⟩ := hL
    have hlen := pLaw_len hp
    have efa : f_ask (V (t + 1)) (some ls) h g q = lsE (Fsc (V (t + 1)) h g q) ls (0, 0, 0) := rfl
    rw [hm1]
    by_cases hls : ls.length = 0
    · have : ls = [] := List.eq_nil_of_length_eq_zero hls
      subst this
      refine br_f (by decide) (hq V2 ⟨fun b hb _ => v2o b hb, fun j hj => ?_, ?_, ?_⟩ ?_ ?_ ?_ ?_)
      · rw [v2j, if_neg (by omega), if_neg (by omega), if_neg (by omega), if_neg (by omega)]
      · rw [v2j]; exact jmk
      · rw [v2j]; exact h16
      · rw [v2j, hmk]; rfl
      · rw [v2j]; rfl
      · rw [v2j]; rfl
      · rw [v2j]; rfl
    · have row : ∀ (W : Nat → Nat → Int32) (i : Nat) (x : Int32), vset W (t + 6) i x (t + 1) = W (t + 1) := fun W i x => vset_n _ _ _ (by omega)
      refine br_t (nI_le (a := 1) (by omega) (by omega)) (s6_of (w := 3) hh (by decide) ?_)
      try simp only [row, m2]
      rw [show 11 + 4 * h + 3 = 14 + 4 * h by omega]
      refine s6_rankOf hh hg ?_
      try simp only [row, m2]
      refine s6_lovedOf hh hg ?_
      try simp only [row, m2]
      refine nm_e ?_
      try simp only [row, m2]
      refine s6_bookedIn hh hqq ?_
      try simp only [row, m2]
      generalize hW : vset (vset (vset (vset (vset (vset (vset V2 (t + 6) 0 (nI h)) (t + 6) 1 (nI g)) (t + 6) 2 (nI q)) (t + 6) 3 (V (t + 1) (14 + 4 * h))) (t + 6) 4 (V (t + 1) (67 + 8 * h + g))) (t + 6) 5 (V (t + 1) (131 + 8 * g + h))) (t + 6) 6 (V (t + 1) 6) = W
      have wo : ∀ b, b ≠ t + 6 → W b = V2 b := fun b hb => by rw [← hW, vset_n _ _ _ hb, vset_n _ _ _ hb, vset_n _ _ _ hb, vset_n _ _ _ hb, vset_n _ _ _ hb, vset_n _ _ _ hb, vset_n _ _ _ hb]
      have wj : ∀ j, W (t + 6) j = if j = 6 then V (t + 1) 6 else if j = 5 then V (t + 1) (131 + 8 * g + h) else if j = 4 then V (t + 1) (67 + 8 * h + g) else if j = 3 then V (t + 1) (14 + 4 * h) else if j = 2 then nI q else if j = 1 then nI g else if j = 0 then nI h else V2 (t + 6) j := fun j => by rw [← hW, vset_at, vset_at, vset_at, vset_at, vset_at, vset_at, vset_at]
      have main : ∀ s1, s1 = b2i (V (t + 1) (195 + 8 * h + q) = nI g) → wX6_asks_127 t sh R (nI h) (nI g) (nI q) P W s1 := by
        intro s1 hs1
        refine ⟨by rw [hs1]; exact jz_b, nm_e (nm_e ?_)⟩
        have e12 : (vset W t 16 s1) t 12 = V t 12 := by rw [vset_at, if_neg (by decide), wo t (by omega), v2j]; rfl
        have e2 : (vset (vset (vset W t 16 s1) t 12 (-1 : Int32)) t 9 (619 : Int32)) (t + 1) 2 = nI L := by rw [vset_n _ _ _ (by omega), vset_n _ _ _ (by omega), vset_n _ _ _ (by omega), wo _ (by omega), m2, hm2]
        rw [e12, e2]
        generalize hS : vset (vset (vset (vset (vset (vset W t 16 s1) t 12 (-1 : Int32)) t 9 (619 : Int32)) t 10 (nI L)) t 11 (0 : Int32)) t 13 (0 : Int32) = S
        have so : ∀ b, b ≠ t → S b = W b := fun b hb => by rw [← hS, vset_n _ _ _ hb, vset_n _ _ _ hb, vset_n _ _ _ hb, vset_n _ _ _ hb, vset_n _ _ _ hb, vset_n _ _ _ hb]
        have sj : ∀ j, S t j = if j = 13 then 0 else if j = 11 then 0 else if j = 10 then nI L else if j = 9 then 619 else if j = 12 then -1 else if j = 16 then s1 else V2 t j := fun j => by rw [← hS, vset_at, vset_at, vset_at, vset_at, vset_at, vset_at, wo t (by omega)]
        have s1r : S (t + 1) = V (t + 1) := by rw [so _ (by omega), wo _ (by omega), m2]
        have s15 : S t 15 = mk9 := by rw [sj, v2j]; rfl
        have s16 : S t 16 = s1 := by rw [sj]; rfl
        have eF : Fx S t = Fsc (V (t + 1)) h g q := Fsc_eq (by rw [so _ (by omega), wj]; rfl) (by rw [so _ (by omega), wj]; rfl) (by rw [so _ (by omega), wj]; rfl) (by rw [so _ (by omega), wj]; rfl) (by rw [so _ (by omega), wj]; rfl) (by rw [so _ (by omega), wj]; rfl) (by rw [so _ (by omega), wj]; rfl) (by rw [s15, hmk]) (by rw [s16, hs1])
        have eS : tx (gx S t (0, 0, 0)) t 0 (-1) 0 = S := by
          rw [gx_id (z := (0, 0, 0)) (by rw [sj, v2j]; rfl) (by rw [sj, v2j]; rfl) (by rw [sj, v2j]; rfl)]
          exact tx_id (by rw [sj]; rfl) (by rw [sj]; rfl) (by rw [sj]; rfl)
        rw [← eS]
        refine s6_readLaw hC ⟨hL4, by rw [sj]; rfl, fun i hi => (hm3 i hi).1, Or.inr ⟨by rw [sj]; rfl, fun i hi => by rw [s1r]; exact (hm3 i hi).2⟩⟩ (by rw [s15]; exact jmk) (by rw [s16, hs1]; exact jz_b) ⟨Or.inl rfl, Or.inl rfl⟩ ?_
        rw [hp]
        show P _
        rw [eF, ← efa, txs_f]
        have fo9 : ∀ b, b ≠ t → tx (gx S t (f_ask (V (t + 1)) (some ls) h g q)) t L (V t 12) 0 b = S b := fun b hb => by rw [tx_b hb, gx_b hb]
        refine hq _ ⟨fun b hb hb6 => by rw [fo9 b hb, so _ hb, wo _ hb6, v2o _ hb], fun j hj => ?_, ?_, ?_⟩ ?_ ?_ ?_ ?_
        · rcases hj with hj | rfl | rfl
          · rw [tx_o (Or.inl (by omega)), gx_j, if_neg (by omega), if_neg (by omega), if_neg (by omega), sj, if_neg (by omega), if_neg (by omega), if_neg (by omega), if_neg (by omega), if_neg (by omega), if_neg (by omega), v2j, if_neg (by omega), if_neg (by omega), if_neg (by omega), if_neg (by omega)]
          · rw [tx_f]
          · rw [tx_o (Or.inr (by decide)), gx_j, sj, v2j]; rfl
        · rw [tx_o (Or.inr (by decide)), gx_j]; show jz (S t 15); rw [s15]; exact jmk
        · rw [tx_o (Or.inr (by decide)), gx_j]; show jz (S t 16); rw [s16, hs1]; exact jz_b
        · rw [tx_o (Or.inr (by decide)), gx_j, hmk]; exact s15
        · rw [tx_o (Or.inr (by decide)), gx_j]; rfl
        · rw [tx_o (Or.inr (by decide)), gx_j]; rfl
        · rw [tx_o (Or.inr (by decide)), gx_j]; rfl
      exact ⟨fun w => main 0 (b2i_f w).symm, fun w => main 1 (b2i_t w).symm⟩
theorem f_ask_jz {m : Nat → Int32} : jz (f_ask m law h g q).2.1 ∧ jz (f_ask m law h g q).2.2 := by
  unfold f_ask
  split
  · exact ⟨Or.inl rfl, Or.inl rfl⟩
  · exact lsE_jz ⟨Or.inl rfl, Or.inl rfl⟩
theorem s6_isLet (hC : ConSh sh) (hR : RowOk (V (t + 1))) (hL : LawT (V (t + 1)) law) (h16 : jz (V t 16)) (hh : h < 8) (hg : g < 8) (hqq : q < 8) (hq : ∀ V', AskF V t V' → V' t 17 = (f_ask (V (t + 1)) law h g q).1 → Q (b2i (f_lets (V (t + 1)) law h g q = true)) V') : wX6_isLet t sh R V (nI h) (nI g) (nI q) Q := by
  refine s6_asks hC hR hL h16 hh hg hqq (fun V' hV e15 e17 e18 e19 => ?_)
  have h9 := hq V' hV e17
  have hjz := f_ask_jz (m := V (t + 1)) (law := law) (h := h) (g := g) (q := q)
  rw [e15, e18, e19]
  unfold f_lets at h9
  refine ⟨fun w => ?_, fun w => ?_⟩
  · rw [if_pos w] at h9
    refine ⟨jz_b, ?_⟩
    rw [show b2i (decide (f_marked (V (t + 1)) (V (t + 1) (45 + 3 * g))) = true) = b2i (f_marked (V (t + 1)) (V (t + 1) (45 + 3 * g))) by unfold b2i; simp] at h9
    exact h9
  · rw [if_neg w, jz_eq hjz.2] at h9
    exact ⟨hjz.2, h9⟩
theorem s6_joyOf (hC : ConSh sh) (hR : RowOk (V (t + 1))) (hL : LawT (V (t + 1)) law) (h16 : jz (V t 16)) (hh : h < 8) (hg : g < 8) (hqq : q < 8) (hq : ∀ V', AskF V t V' → Q (f_joy (V (t + 1)) law h g q) V') : wX6_joyOf t sh R V (nI h) (nI g) (nI q) Q := by
  refine s6_asks hC hR hL h16 hh hg hqq (fun V' hV e15 e17 e18 e19 => s6_rankOf hh hg ?_)
  have h9 := hq V' hV
  rw [hV.1 (t + 1) (by omega) (by omega), e17]
  unfold f_joy at h9
  refine ⟨fun w => ?_, fun w => ?_⟩
  · rw [if_pos w] at h9
    exact h9
  · rw [if_neg w] at h9
    exact h9
def f_would (m : Nat → Int32) (law : Option (List Ln)) (h q : Nat) : Bool := decide (¬ m (195 + 8 * h + q) = -1 ∧ f_can m h (m (195 + 8 * h + q)).toNatClampNeg (nI q) ∧ f_lets m law h (m (195 + 8 * h + q)).toNatClampNeg q = true)
theorem s6_wouldMeet (hC : ConSh sh) (hR : RowOk (V (t + 1))) (hL : LawT (V (t + 1)) law) (h15 : jz (V t 15)) (h16 : jz (V t 16)) (hh : h < 8) (hqq : q < 8) (hq : ∀ V', AskF V t V' → (f_would (V (t + 1)) law h q = true → V' t 17 = (f_ask (V (t + 1)) law h (V (t + 1) (195 + 8 * h + q)).toNatClampNeg q).1) → Q (b2i (f_would (V (t + 1)) law h q = true)) V') : wX6_wouldMeet t sh R V (nI h) (nI q) Q := by
  have self : AskF V t V := ⟨fun _ _ _ => rfl, fun _ _ => rfl, h15, h16⟩
  have no : ∀ V', ¬ f_would (V (t + 1)) law h q = true → AskF V t V' → Q 0 V' := fun V' w hV => by
    have := hq V' hV (fun w2 => absurd w2 w)
    rw [b2i_f w] at this
    exact this
  refine s6_bookedIn hh hqq ⟨fun w => no V (fun w2 => (of_decide_eq_true w2).1 w) self, fun w => ?_⟩
  obtain ⟨g, hg, hge⟩ := (hR.2.2.2.2.1 h q hh hqq).resolve_left w
  have hg8 : g < 8 := by have := hR.G8; omega
  have hcl : (V (t + 1) (195 + 8 * h + q)).toNatClampNeg = g := by rw [hge]; exact nI_clamp (by omega)
  rw [hge]
  refine s6_canMeet hh hg8 (p_bz ?_)
  split
  · next wc =>
    refine s6_isLet hC hR hL h16 hh hg8 hqq (fun V' hV e17 => p_bz ?_)
    split
    · next wl =>
      have hf : f_would (V (t + 1)) law h q = true := decide_eq_true ⟨w, by rw [hcl]; exact wc, by rw [hcl]; exact wl⟩
      have := hq V' hV (fun _ => by rw [hcl]; exact e17)
      rw [b2i_t hf] at this
      exact this
    · next wl => exact no V' (fun w2 => wl (by have := (of_decide_eq_true w2).2.2; rw [hcl] at this; exact this)) hV
  · next wc => exact no V (fun w2 => wc (by have := (of_decide_eq_true w2).2.1; rw [hcl] at this; exact this)) self
end TX10
