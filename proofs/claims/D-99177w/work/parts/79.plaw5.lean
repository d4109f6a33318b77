/-! ===== PURE: the twin reads a law, asks it ===== -/
theorem lsE_jz {F : Nat → Int32} : ∀ {ls : List Ln} {z : Int32 × Int32 × Int32}, (jz z.2.1 ∧ jz z.2.2) → jz (lsE F ls z).2.1 ∧ jz (lsE F ls z).2.2 := by
  intro ls
  induction ls with
  | nil => intro z h; exact h
  | cons ln ls ih => intro z h; exact ih (lnE_jz h)
theorem pLawL_len {T : Nat → Nat} {L : Nat} : ∀ {k : Nat} {l : List Ln} {a : Nat}, pO (pLawL T L k l a) (fun _ => True) (fun ls _ => ls.length ≤ 12 ∨ l.length > 12) := by
  intro k
  induction k with
  | zero => intro l a; trivial
  | succ k ih =>
    intro l a
    unfold pLawL
    split
    · trivial
    · next z =>
      by_cases z2 : l.length > 12
      · refine pB_pO ?_
        generalize pLine T L a = r
        rcases r with b | ⟨ln, e⟩
        · trivial
        · show pO (if sk T L e = L then (Sum.inr (l ++ [ln], L) : Pz (List Ln)) else if isS 59 T L e = true then pLawL T L k (l ++ [ln]) (sk T L e + 1) else Sum.inl (sk T L e)) (fun _ => True) (fun ls _ => ls.length ≤ 12 ∨ l.length > 12)
          split
          · exact Or.inr z2
          · split
            · exact pO_mono ih (fun _ _ => trivial) (fun _ _ _ => Or.inr z2)
            · trivial
      · refine pB_pO ?_
        generalize pLine T L a = r
        rcases r with b | ⟨ln, e⟩
        · trivial
        · show pO (if sk T L e = L then (Sum.inr (l ++ [ln], L) : Pz (List Ln)) else if isS 59 T L e = true then pLawL T L k (l ++ [ln]) (sk T L e + 1) else Sum.inl (sk T L e)) (fun _ => True) (fun ls _ => ls.length ≤ 12 ∨ l.length > 12)
          have h2 : (l ++ [ln]).length ≤ 12 := by rw [List.length_append]; show l.length + 1 ≤ 12; omega
          split
          · exact Or.inl h2
          · split
            · exact pO_mono ih (fun _ _ => trivial) (fun _ _ h => Or.inl (h.resolve_right (by omega)))
            · trivial
theorem pLaw_len {T : Nat → Nat} {L : Nat} {ls : List Ln} {e : Nat} (h : pLaw T L = .inr (ls, e)) : ls.length ≤ 12 := by
  unfold pLaw at h
  split at h
  · have := pLawL_len (T := T) (L := L) (k := 13) (l := []) (a := sk T L 0)
    rw [h] at this
    exact this.resolve_right (by show ¬ (0 > 12); decide)
  · cases h; exact Nat.zero_le _
section TX9
variable {sh : List jH} {R : Nat → Nat → Option Nat} {V : Nat → Nat → Int32} {t L a d : Nat} {f : Int32} {T : Nat → Nat} {Q : Int32 → (Nat → Nat → Int32) → Prop} {P : (Nat → Nat → Int32) → Prop} {z : Int32 × Int32 × Int32}
theorem sk_le2 {B : Nat} (h : a ≤ B) (h2 : L ≤ B) : sk T L a ≤ B := by have := rn_le (p := pBl) (T := T) (k := L - a) (a := a); unfold sk; omega
theorem s6_readLaw (hC : ConSh sh) (hT : TxtT V t T L) (h15 : jz (V t 15)) (h16 : jz (V t 16)) (hz : jz z.2.1 ∧ jz z.2.2) (hq : pO (pLaw T L) (fun b => ∀ v z2 a2, (jz z2.2.1 ∧ jz z2.2.2) → a2 ≤ 1000 → Q v (tx (gx V t z2) t a2 (nI b) 0)) (fun ls _ => Q (nI ls.length) (tx (gx V t (lsE (Fx V t) ls z)) t L (-1) 0))) : wX6_read t sh R (tx (gx V t z) t 0 (-1) 0) 1 Q := by
  have hL := hT.1
  have hTg : ∀ {z}, TxtT (gx V t z) t T L := gx_T hT
  have hs := sk_le (T := T) (Nat.zero_le L)
  have quit : ∀ k v z2 a2 f x2, x2 = 0 ∨ ¬ f = -1 → Q v (tx (gx V t z2) t a2 f 0) → wX6_read_23 t sh R 1 Q (k + 1) (tx (gx V t z2) t a2 f 0) x2 v := by
    intro k v z2 a2 f x2 h h2
    rw [wX6_read_23]
    refine ⟨fun _ => h2, fun w => ⟨fun _ => h2, fun w2 => ?_⟩⟩
    rw [tx_f] at w2
    exact absurd w2 (h.resolve_left w)
  have step : ∀ k, (∀ k', k = k' + 1 → ∀ l a, l.length + k' = 12 → a ≤ L → pO (pLawL T L (k' + 1) l a) (fun b => ∀ v z2 a2, (jz z2.2.1 ∧ jz z2.2.2) → a2 ≤ 1000 → Q v (tx (gx V t z2) t a2 (nI b) 0)) (fun ls _ => Q (nI ls.length) (tx (gx V t (lsE (Fx V t) ls z)) t L (-1) 0)) → wX6_read_23 t sh R 1 Q (k' + 2) (tx (gx V t (lsE (Fx V t) l z)) t a (-1) 0) 1 (nI l.length)) → ∀ l a, l.length + k = 12 → a ≤ L → pO (pLawL T L (k + 1) l a) (fun b => ∀ v z2 a2, (jz z2.2.1 ∧ jz z2.2.2) → a2 ≤ 1000 → Q v (tx (gx V t z2) t a2 (nI b) 0)) (fun ls _ => Q (nI ls.length) (tx (gx V t (lsE (Fx V t) ls z)) t L (-1) 0)) → wX6_read_23 t sh R 1 Q (k + 2) (tx (gx V t (lsE (Fx V t) l z)) t a (-1) 0) 1 (nI l.length) := by
      intro k ih l a hk ha hq
      have hja := lsE_jz (F := Fx V t) (ls := l) hz
      have hsa := sk_le (T := T) ha
      rw [wX6_read_23, tx_f]
      refine br_f (by decide) ⟨fun w => absurd rfl w, fun _ => s6_skip hTg (by omega) (br_f (by decide) ?_)⟩
      unfold pLawL at hq
      refine ⟨fun w => ?_, fun w => ?_⟩
      · have hn : ¬ l.length = 12 := fun q => w (by rw [q]; rfl)
        rw [if_neg hn] at hq
        obtain ⟨k2, rfl⟩ : ∃ k2, k = k2 + 1 := ⟨k - 1, by omega⟩
        refine br_f (by decide) (s6_lawLine hC hT h15 h16 hja hsa ?_)
        rw [show pLine T L (sk T L a) = pLine T L a by unfold pLine pKind; simp only [sk_sk, isW_sk]]
        refine pO_mono (pO_and (pO_B hq) (pLine_fw ha)) (fun b h a2 h2 => ?_) (fun ln e h => ?_)
        · refine nm_r (nI_1 _) (s6_skip hTg (by omega) ?_)
          rw [tx_f]
          exact ⟨fun _ => quit _ _ _ _ _ _ (Or.inl rfl) (h.1 _ _ _ hja (by have := sk_le2 (T := T) (L := L) (a := a2) (B := 1000) (by omega) (by omega); omega)), fun q => absurd q (f_ne (by have := h.2; omega))⟩
        · rw [← lsE_app]
          have hjb := lsE_jz (F := Fx V t) (ls := l ++ [ln]) hz
          have hlen : (l ++ [ln]).length = l.length + 1 := by rw [List.length_append]; rfl
          have hse := sk_le (T := T) h.2.2
          have hq2 := h.1
          refine nm_r (nI_1 _) (s6_skip hTg (by have := h.2.2; omega) ?_)
          rw [tx_f, tx_a, tx_10 hTg]
          refine ⟨fun q => absurd rfl q, fun _ => ⟨fun q => ?_, fun q => ?_⟩⟩
          · have hne : ¬ sk T L e = L := fun q2 => q (by rw [q2])
            rw [if_neg hne] at hq2
            refine s6_isSign (by decide) hTg (by omega) ?_
            rw [isS_sk, sk_sk]
            split
            · next z1 =>
              rw [if_pos z1] at hq2
              refine br_f (by decide) ?_
              rw [tx_a]
              refine nm_r (nI_1 _) ?_
              rw [txs_a]
              have h9 := ih k2 rfl (l ++ [ln]) (sk T L e + 1) (by omega) (by have := (isS_iff.mp z1).1; omega) hq2
              rw [hlen] at h9
              exact h9
            · next z1 =>
              rw [if_neg z1] at hq2
              refine br_t rfl ?_
              rw [tx_a]
              refine s6_fwrong ?_
              rw [if_pos rfl]
              exact quit _ _ _ _ _ _ (Or.inr (f_ne (by omega))) (hq2 _ _ _ hjb (by omega))
          · have he : sk T L e = L := (nI_eq (by omega) (by omega)).mp q
            rw [if_pos he] at hq2
            have hq3 : Q (nI (l ++ [ln]).length) (tx (gx V t (lsE (Fx V t) (l ++ [ln]) z)) t L (-1) 0) := hq2
            rw [hlen] at hq3
            rw [he]
            exact quit _ _ _ _ _ _ (Or.inl rfl) hq3
      · have hn : l.length = 12 := (nI_eq (b := 12) (by omega) (by decide)).mp w
        rw [if_pos hn] at hq
        rw [tx_a]
        refine s6_fwrong ?_
        rw [if_pos rfl]
        refine nm_r (nI_1 _) (s6_skip hTg (by omega) ?_)
        rw [tx_f, sk_sk]
        exact ⟨fun _ => quit _ _ _ _ _ _ (Or.inl rfl) (hq _ _ _ hja (by omega)), fun q => absurd q (f_ne (by omega))⟩
  have lp : ∀ k l a, l.length + k = 12 → a ≤ L → pO (pLawL T L (k + 1) l a) (fun b => ∀ v z2 a2, (jz z2.2.1 ∧ jz z2.2.2) → a2 ≤ 1000 → Q v (tx (gx V t z2) t a2 (nI b) 0)) (fun ls _ => Q (nI ls.length) (tx (gx V t (lsE (Fx V t) ls z)) t L (-1) 0)) → wX6_read_23 t sh R 1 Q (k + 2) (tx (gx V t (lsE (Fx V t) l z)) t a (-1) 0) 1 (nI l.length) := by
    intro k
    induction k with
    | zero => exact step 0 (fun k' h => absurd h (by omega))
    | succ k ih => exact step (k + 1) (fun k' h => by obtain rfl : k = k' := by omega
                                                      exact ih)
  unfold wX6_read
  unfold pLaw at hq
  refine s6_skip hTg (by decide) ?_
  rw [tx_10 hTg, tx_a]
  by_cases w : sk T L 0 < L
  · rw [if_pos w] at hq
    refine br_f (nI_ge w (by omega)) ⟨_, lp 12 [] _ rfl hs hq⟩
  · rw [if_neg w] at hq
    refine br_t (nI_le (by omega) (by omega)) ⟨1, ?_⟩
    rw [show sk T L 0 = L by omega]
    exact quit 0 _ _ _ _ _ (Or.inl rfl) hq
/-- the law that a row keeps -/
def LawT (m : Nat → Int32) (law : Option (List Ln)) : Prop := match law with
  | none => m 1 = -1
  | some ls => ∃ (T : Nat → Nat) (L e : Nat), L ≤ 400 ∧ m 1 = nI ls.length ∧ m 2 = nI L ∧ (∀ i, i < L → T i < 256 ∧ m (619 + i) = nI (T i)) ∧ pLaw T L = .inr (ls, e)
def Fsc (m : Nat → Int32) (h g q : Nat) : Nat → Int32
  | 0 => nI h
  | 1 => nI g
  | 2 => nI q
  | 3 => m (14 + 4 * h)
  | 4 => m (67 + 8 * h + g)
  | 5 => m (131 + 8 * g + h)
  | 6 => m 6
  | 7 => b2i (f_marked m (m (45 + 3 * g)))
  | _ => b2i (m (195 + 8 * h + q) = nI g)
def f_ask (m : Nat → Int32) (law : Option (List Ln)) (h g q : Nat) : Int32 × Int32 × Int32 := match law with
  | none => (0, 0, 0)
  | some ls => lsE (Fsc m h g q) ls (0, 0, 0)
def f_lets (m : Nat → Int32) (law : Option (List Ln)) (h g q : Nat) : Bool := if (f_ask m law h g q).2.1 = 0 then decide (f_marked m (m (45 + 3 * g))) else decide (¬ (f_ask m law h g q).2.2 = 0)
def f_joy (m : Nat → Int32) (law : Option (List Ln)) (h g q : Nat) : Int32 := if 0 ≤ m (67 + 8 * h + g) + (f_ask m law h g q).1 then m (67 + 8 * h + g) + (f_ask m law h g q).1 else 0
/-- what asking leaves as it was -/
def AskF (V : Nat → Nat → Int32) (t : Nat) (V' : Nat → Nat → Int32) : Prop := (∀ b, b ≠ t → b ≠ t + 6 → V' b = V b) ∧ (∀ j, j < 9 ∨ j = 12 ∨ j = 20 → V' t j = V t j) ∧ jz (V' t 15) ∧ jz (V' t 16)
theorem tx_id (h1 : V t 11 = nI a) (h2 : V t 12 = f) (h3 : V t 13 = nI d) : tx V t a f d = V := by
  unfold tx
  rw [vset_id h1, vset_id h2, vset_id h3]
theorem gx_id (h1 : V t 17 = z.1) (h2 : V t 18 = z.2.1) (h3 : V t 19 = z.2.2) : gx V t z = V := by
  unfold gx
  rw [vset_id h1, vset_id h2, vset_id h3]
theorem AskF.trans {V V1 V2 : Nat → Nat → Int32} (h : AskF V t V1) (h2 : AskF V1 t V2) : AskF V t V2 :=
  ⟨fun b h1 h3 => (h2.1 b h1 h3).trans (h.1 b h1 h3), fun j hj => (h2.2.1 j hj).trans (h.2.1 j hj), h2.2.2⟩
end TX9
