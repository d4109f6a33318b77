/-! ===== PURE: the twin's conditions, one within another ===== -/
abbrev tA (V : Nat → Nat → Int32) (t L d : Nat) (Q : Int32 → (Nat → Nat → Int32) → Prop) (r : Pz Cd) : Prop := pO r (fun b => ∀ v a2, jz v → a2 ≤ L + (7 - d) → Q v (tx V t a2 (nI b) d)) (fun c e => Q (b2i (c (Fx V t) = true)) (tx V t e (-1) d))
section TX7
variable {sh : List jH} {R : Nat → Nat → Option Nat} {V : Nat → Nat → Int32} {t L a d : Nat} {f : Int32} {T : Nat → Nat} {Q : Int32 → (Nat → Nat → Int32) → Prop} {P : Nat → Pz Cd} {REC : (Nat → Nat → Int32) → (Int32 → (Nat → Nat → Int32) → Prop) → Prop}
theorem s6_every (hC : ConSh sh) (hT : TxtT V t T L) (hfw : ∀ a, a ≤ L → fw L a (P a)) (hREC : ∀ a Q, a ≤ L → tA V t L d Q (P a) → REC (tx V t a (-1) d) Q) (ha : a ≤ L) (hq : tA V t L d Q (pEvery P T L a)) : wX6_every t sh R REC (tx V t a (-1) d) Q := by
  have hL := hT.1
  unfold wX6_every
  have hbad : ∀ (n : Nat) (x : Int32) (b a2 : Nat), b ≤ L → jz x → Q x (tx V t a2 (nI b) d) → wX6_every_5 t sh R REC Q (n + 1) (tx V t a2 (nI b) d) x := fun n x b a2 hb hx h => by
    rw [wX6_every_5, tx_f]
    exact ⟨fun _ => ⟨hx, h⟩, fun z => absurd z (f_ne (by omega))⟩
  have lp : ∀ k c a, a ≤ L → L ≤ a + k → tA V t L d Q (pLoop (tw 17) P and T L k c a) → wX6_every_5 t sh R REC Q (k + 2) (tx V t a (-1) d) (b2i (c (Fx V t) = true)) := by
    intro k
    induction k with
    | zero =>
      intro c a ha hk hq
      rw [wX6_every_5, tx_f]
      refine ⟨fun z => absurd rfl z, fun _ => s6_has (w := tw 17) (by decide) (fun V R => str_17 hC.g) hT (by omega) ?_⟩
      have hn : ¬ isW (tw 17) T L a = true := fun z => by
        have h1 := isW_lt (by decide) z
        have := afW_le (w := tw 17) (T := T) ha
        omega
      rw [if_neg hn, afW_no hn]
      exact br_t rfl ⟨jz_b, hq⟩
    | succ k ih =>
      intro c a ha hk hq
      rw [wX6_every_5, tx_f]
      refine ⟨fun z => absurd rfl z, fun _ => s6_has (w := tw 17) (by decide) (fun V R => str_17 hC.g) hT (by omega) ?_⟩
      unfold pLoop at hq
      split
      · next z =>
        rw [if_pos z] at hq
        have h1 := isW_lt (by decide) z
        have h2 := afW_le (w := tw 17) (T := T) ha
        refine br_f (by decide) (hREC _ _ h2 (pO_mono (pO_and (pO_B hq) (hfw _ h2)) (fun b h v a2 hv h3 => ?_) (fun c2 e h => ?_)))
        · exact ⟨fun _ => hbad _ 0 b a2 h.2 (Or.inl rfl) (h.1 _ _ (Or.inl rfl) h3), fun _ => ⟨fun _ => hbad _ 0 b a2 h.2 (Or.inl rfl) (h.1 _ _ (Or.inl rfl) h3), fun _ => hbad _ 1 b a2 h.2 (Or.inr rfl) (h.1 _ _ (Or.inr rfl) h3)⟩⟩
        · have h9 := ih (fun F => (c F && c2 F)) e h.2.2 (by omega) h.1
          refine ⟨fun z1 => ?_, fun z1 => ⟨fun z2 => ?_, fun z2 => ?_⟩⟩
          · rw [b2i_f (fun q => (b2i_0.mp z1) (by rw [Bool.and_eq_true] at q; exact q.1))] at h9; exact h9
          · rw [b2i_f (fun q => (b2i_0.mp z2) (by rw [Bool.and_eq_true] at q; exact q.2))] at h9; exact h9
          · rw [b2i_t (by rw [Bool.and_eq_true]; exact ⟨Classical.byContradiction fun q => z1 (b2i_f q), Classical.byContradiction fun q => z2 (b2i_f q)⟩)] at h9; exact h9
      · next z =>
        rw [if_neg z] at hq
        rw [afW_no z]
        exact br_t rfl ⟨jz_b, hq⟩
  exact hREC _ _ ha (pO_mono (pO_and (pO_B hq) (hfw _ ha)) (fun b h v a2 hv h3 => ⟨1, hbad 0 v b a2 h.2 hv (h.1 v a2 hv h3)⟩) (fun c e h => ⟨_, lp L c e h.2.2 (by omega) h.1⟩))
theorem s6_some (hC : ConSh sh) (hT : TxtT V t T L) (hfw : ∀ a, a ≤ L → fw L a (P a)) (hREC : ∀ a Q, a ≤ L → tA V t L d Q (P a) → REC (tx V t a (-1) d) Q) (ha : a ≤ L) (hq : tA V t L d Q (pSome P T L a)) : wX6_some t sh R REC (tx V t a (-1) d) Q := by
  have hL := hT.1
  unfold wX6_some
  have hbad : ∀ (n : Nat) (x : Int32) (b a2 : Nat), b ≤ L → jz x → Q x (tx V t a2 (nI b) d) → wX6_some_5 t sh R REC Q (n + 1) (tx V t a2 (nI b) d) x := fun n x b a2 hb hx h => by
    rw [wX6_some_5, tx_f]
    exact ⟨fun _ => ⟨hx, h⟩, fun z => absurd z (f_ne (by omega))⟩
  have lp : ∀ k c a, a ≤ L → L ≤ a + k → tA V t L d Q (pLoop (tw 18) (pEvery P T L) or T L k c a) → wX6_some_5 t sh R REC Q (k + 2) (tx V t a (-1) d) (b2i (c (Fx V t) = true)) := by
    intro k
    induction k with
    | zero =>
      intro c a ha hk hq
      rw [wX6_some_5, tx_f]
      refine ⟨fun z => absurd rfl z, fun _ => s6_has (w := tw 18) (by decide) (fun V R => str_18 hC.g) hT (by omega) ?_⟩
      have hn : ¬ isW (tw 18) T L a = true := fun z => by
        have h1 := isW_lt (by decide) z
        have := afW_le (w := tw 18) (T := T) ha
        omega
      rw [if_neg hn, afW_no hn]
      exact br_t rfl ⟨jz_b, hq⟩
    | succ k ih =>
      intro c a ha hk hq
      rw [wX6_some_5, tx_f]
      refine ⟨fun z => absurd rfl z, fun _ => s6_has (w := tw 18) (by decide) (fun V R => str_18 hC.g) hT (by omega) ?_⟩
      unfold pLoop at hq
      split
      · next z =>
        rw [if_pos z] at hq
        have h1 := isW_lt (by decide) z
        have h2 := afW_le (w := tw 18) (T := T) ha
        refine br_f (by decide) (s6_every hC hT hfw hREC h2 (pO_mono (pO_and (pO_B hq) (pEvery_fw hfw h2)) (fun b h v a2 hv h3 => ?_) (fun c2 e h => ?_)))
        · exact ⟨fun _ => hbad _ 1 b a2 h.2 (Or.inr rfl) (h.1 _ _ (Or.inr rfl) h3), fun _ => ⟨fun _ => hbad _ 0 b a2 h.2 (Or.inl rfl) (h.1 _ _ (Or.inl rfl) h3), fun _ => hbad _ 1 b a2 h.2 (Or.inr rfl) (h.1 _ _ (Or.inr rfl) h3)⟩⟩
        · have h9 := ih (fun F => (c F || c2 F)) e h.2.2 (by omega) h.1
          refine ⟨fun z1 => ?_, fun z1 => ⟨fun z2 => ?_, fun z2 => ?_⟩⟩
          · rw [b2i_t (by rw [Bool.or_eq_true]; exact Or.inl (Classical.byContradiction fun q => z1 (b2i_f q)))] at h9; exact h9
          · rw [b2i_f (fun q => by rw [Bool.or_eq_true] at q; exact q.elim (b2i_0.mp z1) (b2i_0.mp z2))] at h9; exact h9
          · rw [b2i_t (by rw [Bool.or_eq_true]; exact Or.inr (Classical.byContradiction fun q => z2 (b2i_f q)))] at h9; exact h9
      · next z =>
        rw [if_neg z] at hq
        rw [afW_no z]
        exact br_t rfl ⟨jz_b, hq⟩
  exact s6_every hC hT hfw hREC ha (pO_mono (pO_and (pO_B hq) (pEvery_fw hfw ha)) (fun b h v a2 hv h3 => ⟨1, hbad 0 v b a2 h.2 hv (h.1 v a2 hv h3)⟩) (fun c e h => ⟨_, lp L c e h.2.2 (by omega) h.1⟩))
theorem s6_atomB {n : Nat} (hC : ConSh sh) (hT : TxtT V t T L) (h15 : jz (V t 15)) (h16 : jz (V t 16)) (hd : d + n = 6) (hfw : ∀ a, a ≤ L → fw L a (P a)) (hREC : 0 < n → ∀ a Q, a ≤ L → tA V t L (d + 1) Q (P a) → REC (tx V t a (-1) (d + 1)) Q) (ha : a ≤ L) (hq : tA V t L d Q (pAtB n P T L a)) : wX6_atom_B t sh R REC (tx V t a (-1) d) Q := by
  have hL := hT.1
  have hs := sk_le (T := T) ha
  unfold wX6_atom_B
  rw [tx_f]
  refine ⟨fun _ => s6_here hT (by omega) (s6_has (w := tw 14) (by decide) (fun V R => str_14 hC.g) hT (by omega) ?_), fun z => absurd rfl z⟩
  rw [isW_sk, afW_sk]
  unfold pAtB at hq
  have up : (nI d : Int32) + 1 = nI (d + 1) := nI_1 d
  have dn : (nI (d + 1) : Int32) - 1 = nI d := nI_pred d
  by_cases z0 : isW (tw 14) T L a = true
  · have z1 : ¬ isS 40 T L a = true := fun z => by
      have h1 := (isS_iff.mp z).2
      have h2 := (isW_iff.mp z0).2 0 (by decide)
      rw [Nat.add_zero, h1] at h2
      exact absurd h2 (by decide)
    rw [if_neg z1, if_pos z0] at hq
    rw [if_pos z0]
    refine ⟨fun _ => ⟨fun z => ?_, fun z => ?_⟩, fun z => absurd z (by decide)⟩
    · rw [tx_d] at z ⊢
      have hn : ¬ n = 0 := fun q => z (by rw [show d = 6 by omega]; rfl)
      rw [if_neg hn] at hq
      refine nm_r up ?_
      rw [txs_d]
      refine br_f (by decide) (hREC (by omega) _ _ (afW_le ha) (pO_mono (pO_B hq) (fun b h v a2 hv h3 => ?_) (fun c e h => ?_)))
      · refine ⟨fun _ => ?_, fun _ => ?_⟩
        · show wX6_atom_138 t sh R REC Q _ _
          unfold wX6_atom_138
          rw [tx_d]
          refine nm_r dn ?_
          rw [txs_d]
          exact ⟨Or.inl rfl, h 0 a2 (Or.inl rfl) (by omega)⟩
        · show wX6_atom_138 t sh R REC Q _ _
          unfold wX6_atom_138
          rw [tx_d]
          refine nm_r dn ?_
          rw [txs_d]
          exact ⟨Or.inr rfl, h 1 a2 (Or.inr rfl) (by omega)⟩
      · have h9 : Q (b2i ((!c (Fx V t)) = true)) (tx V t e (-1) d) := h
        refine ⟨fun z2 => ?_, fun z2 => ?_⟩
        · show wX6_atom_138 t sh R REC Q _ _
          unfold wX6_atom_138
          rw [tx_d]
          refine nm_r dn ?_
          rw [txs_d]
          have hc : c (Fx V t) = true := Classical.byContradiction fun q => z2 (b2i_f q)
          rw [hc] at h9
          exact ⟨Or.inl rfl, h9⟩
        · show wX6_atom_138 t sh R REC Q _ _
          unfold wX6_atom_138
          rw [tx_d]
          refine nm_r dn ?_
          rw [txs_d]
          have hc : c (Fx V t) = false := Bool.eq_false_iff.mpr (b2i_0.mp z2)
          rw [hc] at h9
          exact ⟨Or.inr rfl, h9⟩
    · rw [tx_d] at z
      have hn : n = 0 := by have := (nI_eq (b := 6) (by omega) (by decide)).mp z; omega
      rw [if_pos hn] at hq
      refine s6_fwrong ?_
      rw [if_pos rfl]
      exact hq 0 _ (Or.inl rfl) (by have := afW_le (w := tw 14) (T := T) ha; omega)
  · rw [if_neg z0, afW_no z0]
    refine ⟨fun z => absurd rfl z, fun _ => s6_isSign (by decide) hT (by omega) ?_⟩
    rw [isS_sk, sk_sk]
    by_cases z1 : isS 40 T L a = true
    · have hlt := (isS_iff.mp z1).1
      rw [if_pos z1] at hq ⊢
      refine ⟨fun _ => ⟨fun z => ?_, fun z => ?_⟩, fun z => absurd z (by decide)⟩
      · rw [tx_d] at z ⊢
        have hn : ¬ n = 0 := fun q => z (by rw [show d = 6 by omega]; rfl)
        rw [if_neg hn] at hq
        refine nm_r up ?_
        rw [txs_d]
        refine br_t rfl ?_
        rw [tx_a]
        refine nm_r (nI_1 _) ?_
        rw [txs_a]
        have tail : ∀ (a2 : Nat) (f v : Int32), jz v → Q v (tx V t (a2 + 1) f d) → wX6_atom_128 t sh R REC Q (tx V t a2 f (d + 1)) v := by
          intro a2 f v hv h
          unfold wX6_atom_128
          rw [tx_a]
          refine nm_r (nI_1 _) ?_
          rw [txs_a]
          unfold wX6_atom_138
          rw [tx_d]
          refine nm_r dn ?_
          rw [txs_d]
          exact ⟨hv, h⟩
        refine s6_some hC hT hfw (hREC (by omega)) (by omega) (pO_mono (pO_and (pO_B hq) (pSome_fw hfw (by omega))) (fun b h v a2 hv h3 => ?_) (fun c e h => ?_))
        · dsimp only
          rw [tx_f]
          exact ⟨fun _ => tail _ _ _ hv (h.1 v _ hv (by omega)), fun z => absurd z (f_ne (by have := h.2; omega))⟩
        · dsimp only
          rw [tx_f]
          refine ⟨fun z => absurd rfl z, fun _ => s6_isSign (by decide) hT (by have := h.2.2; omega) ?_⟩
          have hq2 := h.1
          split
          · next z2 =>
            rw [if_pos z2] at hq2
            exact ⟨fun _ => tail _ _ _ jz_b hq2, fun z => absurd z (by decide)⟩
          · next z2 =>
            rw [if_neg z2] at hq2
            refine ⟨fun z => absurd rfl z, fun _ => ?_⟩
            rw [tx_a]
            refine s6_fwrong ?_
            rw [if_pos rfl]
            have := sk_le (T := T) h.2.2
            exact tail _ _ _ jz_b (hq2 _ _ jz_b (by omega))
      · rw [tx_d] at z
        have hn : n = 0 := by have := (nI_eq (b := 6) (by omega) (by decide)).mp z; omega
        rw [if_pos hn] at hq
        refine s6_fwrong ?_
        rw [if_pos rfl]
        exact hq 0 _ (Or.inl rfl) (by omega)
    · rw [if_neg z1, if_neg z0] at hq
      rw [if_neg z1]
      refine ⟨fun z => absurd rfl z, fun _ => s6_plain hC hT h15 h16 hs ?_⟩
      rw [show pPlain T L (sk T L a) = pPlain T L a by unfold pPlain pSum pPart pNum pFact; simp only [sk_sk, isW_sk, afW_sk]]
      exact pO_mono hq (fun b h v a2 hv h3 => ⟨hv, h v a2 hv (by omega)⟩) (fun c e h => ⟨jz_b, h⟩)
theorem s6_atom (hC : ConSh sh) (hT : TxtT V t T L) (h15 : jz (V t 15)) (h16 : jz (V t 16)) : ∀ (n d a : Nat) (Q : Int32 → (Nat → Nat → Int32) → Prop), d + n = 6 → a ≤ L → tA V t L d Q (pAt T L (n + 1) a) → wX6_atom t sh R (n + 1) (tx V t a (-1) d) Q := by
  intro n
  induction n with
  | zero =>
    intro d a Q hd ha hq
    exact s6_atomB hC hT h15 h16 hd (fun a h => pAt_fw h) (fun z => absurd z (by decide)) ha hq
  | succ n ih =>
    intro d a Q hd ha hq
    exact s6_atomB hC hT h15 h16 hd (fun a h => pAt_fw h) (fun _ a Q h hq => ih (d + 1) a Q (by omega) h hq) ha hq
end TX7
