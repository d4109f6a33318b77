/-! ===== PURE: the twin reads a law to keep it ===== -/
section TM
variable {sh : List jH} {R : Nat → Nat → Option Nat} {V V' : Nat → Nat → Int32} {t L a b d : Nat} {f : Int32} {T : Nat → Nat} {m : Row} {D : St} {Q : Int32 → (Nat → Nat → Int32) → Prop} {P : (Nat → Nat → Int32) → Prop} {z : Int32 × Int32 × Int32}
theorem s6_lawLine0 (hC : ConSh sh) (hT : TxtT V t T L) (h15 : jz (V t 15)) (h16 : jz (V t 16)) (ha : a ≤ L) (hq : pO (pLine T L a) (fun b => ∀ a2, a2 ≤ L + 7 → P (tx (gx V t z) t a2 (nI b) 0)) (fun ln e => ∀ z2, P (tx (gx V t z2) t e (-1) 0))) : wX6_lawLine t sh R (tx (gx V t z) t a (-1) 0) P := by
  have hL := hT.1
  have hs := sk_le (T := T) ha
  have hTg : TxtT (gx V t z) t T L := gx_T hT
  -- the end of a line
  have fin : ∀ (k n : Nat) (c : Cd) (e : Nat), k < 3 → (∀ z2, P (tx (gx V t z2) t e (-1) 0)) → ∀ x3, wX6_lawLine_104 t sh R P (tx (gx V t z) t e (-1) 0) (nI k) (nI n) x3 := by
    intro k n c e hk h x3
    have mid : ∀ y1 y2, vset (tx (gx V t z) t e (-1) 0) t 18 y1 = tx (gx V t (z.1, y1, z.2.2)) t e (-1) 0 ∧ vset (tx (gx V t (z.1, y1, z.2.2)) t e (-1) 0) t 19 y2 = tx (gx V t (z.1, y1, y2)) t e (-1) 0 := by
      intro y1 y2
      constructor
      · rw [txs_o (Or.inr (by decide))]
        congr 1
        refine vext (k := t) (fun b hb => by rw [vset_n _ _ _ hb, gx_b hb, gx_b hb]) (fun j => ?_)
        rw [vset_at, gx_j, gx_j]
        by_cases q : j = 18
        · rw [if_pos q, if_neg (by omega), if_pos q]
        · rw [if_neg q, if_neg q, if_neg q]
      · rw [txs_o (Or.inr (by decide))]
        congr 1
        refine vext (k := t) (fun b hb => by rw [vset_n _ _ _ hb, gx_b hb, gx_b hb]) (fun j => ?_)
        rw [vset_at, gx_j, gx_j]
        by_cases q : j = 19
        · rw [if_pos q, if_pos q]
        · rw [if_neg q, if_neg q, if_neg q]
    have last : ∀ y1 y2 s, vset (tx (gx V t (z.1, y1, y2)) t e (-1) 0) t 17 s = tx (gx V t (s, y1, y2)) t e (-1) 0 := by
      intro y1 y2 s
      rw [txs_o (Or.inr (by decide))]
      congr 1
      refine vext (k := t) (fun b hb => by rw [vset_n _ _ _ hb, gx_b hb, gx_b hb]) (fun j => ?_)
      rw [vset_at, gx_j, gx_j]
      by_cases q : j = 17
      · rw [if_pos q, if_neg (by omega), if_neg (by omega), if_pos q]
      · simp only [if_neg q]
    have g1 : ∀ y1 y2, jz y2 → wX6_lawLine_158 t sh R P (tx (gx V t (z.1, y1, z.2.2)) t e (-1) 0) (nI k) (nI n) y2 := by
      intro y1 y2 hj
      refine ⟨hj, ?_⟩
      rw [(mid y1 y2).2]
      refine ⟨fun q0 => ⟨fun q1 => nm_e ?_, fun q1 => nm_e ?_⟩, fun q0 => nm_e ?_⟩
      · rw [last]; exact h _
      · rw [last]; exact h _
      · rw [last]; exact h _
    have g2 : ∀ y1, jz y1 → wX6_lawLine_132 t sh R P (tx (gx V t z) t e (-1) 0) (nI k) (nI n) x3 y1 := by
      intro y1 hj
      refine ⟨hj, ?_⟩
      rw [(mid y1 0).1]
      exact ⟨fun q => ⟨fun w => g1 y1 1 (Or.inr rfl), fun w => ⟨fun w2 => g1 y1 0 (Or.inl rfl), fun w2 => g1 y1 1 (Or.inr rfl)⟩⟩, fun q => h _⟩
    unfold wX6_lawLine_104
    rw [tx_f]
    exact br_t rfl ⟨fun q => g2 1 (Or.inr rfl), fun q => ⟨fun w => g2 0 (Or.inl rfl), fun w => g2 1 (Or.inr rfl)⟩⟩
  -- the condition of a line
  have mif : ∀ (k n e : Nat), k < 3 → e ≤ L → pO (pIf T L k n e) (fun b => ∀ a2, a2 ≤ L + 7 → P (tx (gx V t z) t a2 (nI b) 0)) (fun ln e => ∀ z2, P (tx (gx V t z2) t e (-1) 0)) → wX6_lawLine_72 t sh R P (tx (gx V t z) t e (-1) 0) (nI k) (nI n) := by
    intro k n e hk he hq
    unfold wX6_lawLine_72
    rw [tx_f]
    refine br_t rfl (s6_has (w := tw 13) (by decide) (fun V R => str_13 hC.g) hTg (by omega) ?_)
    unfold pIf at hq
    split
    · next z1 =>
      rw [if_pos z1] at hq
      have h1 := afW_le (w := tw 13) (T := T) he
      refine br_f (by decide) ⟨7, by decide, s6_some hC hTg (fun a h => pAt_fw h) (fun a Q ha hq => s6_atom hC hTg (by rw [gx_j]; exact h15) (by rw [gx_j]; exact h16) 6 0 a Q (by decide) ha hq) h1 (pO_mono (pO_and (pO_B hq) (pSome_fw (fun a h => pAt_fw h) h1)) (fun b h v a2 hv h3 => ?_) (fun c e2 h => ?_))⟩
      · have bd : ∀ s, wX6_lawLine_104 t sh R P (tx (gx V t z) t a2 (nI b) 0) (nI k) (nI n) s := fun s => by
          unfold wX6_lawLine_104
          rw [tx_f]
          exact ⟨fun w => absurd w (f_ne (by have := h.2; omega)), fun _ => h.1 a2 h3⟩
        exact ⟨fun _ => bd _, fun _ => bd _⟩
      · rw [gx_F]
        exact ⟨fun w => fin k n c e2 hk h.1 0, fun w => fin k n c e2 hk h.1 1⟩
    · next z1 =>
      rw [if_neg z1] at hq
      rw [afW_no z1]
      exact br_t rfl (fin k n (fun _ => true) _ hk hq 1)
  have knd : ∀ (k e : Nat), k < 3 → e ≤ L → pO (if k = 2 then pIf T L k 0 e else pB (pNum 0 99 T L e) (fun n a2 => pIf T L k n a2)) (fun b => ∀ a2, a2 ≤ L + 7 → P (tx (gx V t z) t a2 (nI b) 0)) (fun ln e => ∀ z2, P (tx (gx V t z2) t e (-1) 0)) → wX6_lawLine_41 t sh R P (tx (gx V t z) t e (-1) 0) (nI k) := by
    intro k e hk he hq
    refine ⟨fun _ => ⟨fun w => ?_, fun w => ?_⟩, fun w => absurd w (nI_nm1 (by omega))⟩
    · rw [if_neg (fun w3 => w (by rw [w3]; rfl))] at hq
      refine s6_figures hTg he (pO_mono (pO_and (pO_B hq) (pNum_fw he)) (fun b h v a2 hv h3 => ?_) (fun n e2 h => mif k n e2 hk h.2.2 h.1))
      unfold wX6_lawLine_72
      rw [tx_f]
      exact ⟨fun w => absurd w (f_ne (by have := h.2; omega)), fun _ => h.1 a2 (by omega)⟩
    · have k2 : k = 2 := (nI_eq (b := 2) (by omega) (by decide)).mp w
      rw [if_pos k2] at hq
      exact mif k 0 e hk he hq
  have none : pKind T L a = none → wX6_lawLine_41 t sh R P (tx (gx V t z) t (sk T L a) (-1) 0) (-1) := by
    intro h
    unfold pLine at hq
    rw [h] at hq
    refine ⟨fun w => absurd rfl w, fun _ => ?_⟩
    rw [tx_a]
    refine s6_fwrong ?_
    rw [if_pos rfl]
    exact hq _ (by omega)
  have some : ∀ k, pKind T L a = some k → ∀ e, e = wd T L (sk T L a) → wX6_lawLine_41 t sh R P (tx (gx V t z) t e (-1) 0) (nI k) := by
    intro k h e he
    unfold pLine at hq
    rw [h] at hq
    rw [he]
    exact knd k _ (pKind_lt h).2 (wd_le hs) hq
  unfold pKind at none some
  unfold wX6_lawLine
  refine s6_has (w := tw 19) (by decide) (fun V R => str_19 hC.g) hTg (by omega) ?_
  by_cases z0 : isW (tw 19) T L a = true
  · rw [if_pos z0]
    exact br_f (by decide) (some 0 (if_pos z0) _ (afW_yes z0))
  rw [if_neg z0, afW_no z0]
  refine br_t rfl (s6_has (w := tw 20) (by decide) (fun V R => str_20 hC.g) hTg (by omega) ?_)
  rw [isW_sk, afW_sk]
  by_cases z1 : isW (tw 20) T L a = true
  · rw [if_pos z1]
    exact br_f (by decide) (some 1 (by rw [if_neg z0, if_pos z1]) _ (afW_yes z1))
  rw [if_neg z1, afW_no z1]
  refine br_t rfl (s6_has (w := tw 21) (by decide) (fun V R => str_21 hC.g) hTg (by omega) ?_)
  rw [isW_sk, afW_sk]
  by_cases z2 : isW (tw 21) T L a = true
  · rw [if_pos z2]
    exact br_f (by decide) (some 2 (by rw [if_neg z0, if_neg z1, if_pos z2]) _ (afW_yes z2))
  rw [if_neg z2, afW_no z2]
  exact br_t rfl (none (by rw [if_neg z0, if_neg z1, if_neg z2]))
theorem s6_readLaw0 (hC : ConSh sh) (hT : TxtT V t T L) (h15 : jz (V t 15)) (h16 : jz (V t 16)) (hq : pO (pLaw T L) (fun b => ∀ v z2 a2, a2 ≤ 1000 → Q v (tx (gx V t z2) t a2 (nI b) 0)) (fun ls _ => ∀ z2, Q (nI ls.length) (tx (gx V t z2) t L (-1) 0))) : wX6_read t sh R (tx (gx V t z) t 0 (-1) 0) 1 Q := by
  have hL := hT.1
  have hTg : ∀ {z}, TxtT (gx V t z) t T L := gx_T hT
  have hs := sk_le (T := T) (Nat.zero_le L)
  have quit : ∀ k v z2 a2 f x2, x2 = 0 ∨ ¬ f = -1 → Q v (tx (gx V t z2) t a2 f 0) → wX6_read_23 t sh R 1 Q (k + 1) (tx (gx V t z2) t a2 f 0) x2 v := by
    intro k v z2 a2 f x2 h h2
    rw [wX6_read_23]
    refine ⟨fun _ => h2, fun w => ⟨fun _ => h2, fun w2 => ?_⟩⟩
    rw [tx_f] at w2
    exact absurd w2 (h.resolve_left w)
  have step : ∀ k, (∀ k', k = k' + 1 → ∀ z l a, l.length + k' = 12 → a ≤ L → pO (pLawL T L (k' + 1) l a) (fun b => ∀ v z2 a2, a2 ≤ 1000 → Q v (tx (gx V t z2) t a2 (nI b) 0)) (fun ls _ => ∀ z2, Q (nI ls.length) (tx (gx V t z2) t L (-1) 0)) → wX6_read_23 t sh R 1 Q (k' + 2) (tx (gx V t z) t a (-1) 0) 1 (nI l.length)) → ∀ z l a, l.length + k = 12 → a ≤ L → pO (pLawL T L (k + 1) l a) (fun b => ∀ v z2 a2, a2 ≤ 1000 → Q v (tx (gx V t z2) t a2 (nI b) 0)) (fun ls _ => ∀ z2, Q (nI ls.length) (tx (gx V t z2) t L (-1) 0)) → wX6_read_23 t sh R 1 Q (k + 2) (tx (gx V t z) t a (-1) 0) 1 (nI l.length) := by
      intro k ih z l a hk ha hq
      have hsa := sk_le (T := T) ha
      rw [wX6_read_23, tx_f]
      refine br_f (by decide) ⟨fun w => absurd rfl w, fun _ => s6_skip hTg (by omega) (br_f (by decide) ?_)⟩
      unfold pLawL at hq
      refine ⟨fun w => ?_, fun w => ?_⟩
      · have hn : ¬ l.length = 12 := fun q => w (by rw [q]; rfl)
        rw [if_neg hn] at hq
        obtain ⟨k2, rfl⟩ : ∃ k2, k = k2 + 1 := ⟨k - 1, by omega⟩
        refine br_f (by decide) (s6_lawLine0 hC hT h15 h16 hsa ?_)
        rw [show pLine T L (sk T L a) = pLine T L a by unfold pLine pKind; simp only [sk_sk, isW_sk]]
        refine pO_mono (pO_and (pO_B hq) (pLine_fw ha)) (fun b h a2 h2 => ?_) (fun ln e h => ?_)
        · refine nm_r (nI_1 _) (s6_skip hTg (by omega) ?_)
          rw [tx_f]
          exact ⟨fun _ => quit _ _ _ _ _ _ (Or.inl rfl) (h.1 _ _ _ (by have := sk_le2 (T := T) (L := L) (a := a2) (B := 1000) (by omega) (by omega); omega)), fun q => absurd q (f_ne (by have := h.2; omega))⟩
        · intro z2
          have hlen : (l ++ [ln]).length = l.length + 1 := by rw [List.length_append]; rfl
          have hse := sk_le (T := T) h.2.2
          have hq2 := h.1
          refine nm_r (nI_1 _) (s6_skip hTg (by have := h.2.2; omega) ?_)
          rw [tx_f, tx_a, tx_10 hTg]
          refine ⟨fun q => absurd rfl q, fun _ => ⟨fun q => ?_, fun q => ?_⟩⟩
          · have hne : ¬ sk T L e = L := fun q2 => q (by rw [q2])
            rw [if_neg hne] at hq2
            refine s6_isSign (by decide) hTg (by omega) ?_
            rw [isS_sk, sk_sk]
            split
            · next z1 =>
              rw [if_pos z1] at hq2
              refine br_f (by decide) ?_
              rw [tx_a]
              refine nm_r (nI_1 _) ?_
              rw [txs_a]
              have h9 := ih k2 rfl z2 (l ++ [ln]) (sk T L e + 1) (by omega) (by have := (isS_iff.mp z1).1; omega) hq2
              rw [hlen] at h9
              exact h9
            · next z1 =>
              rw [if_neg z1] at hq2
              refine br_t rfl ?_
              rw [tx_a]
              refine s6_fwrong ?_
              rw [if_pos rfl]
              exact quit _ _ _ _ _ _ (Or.inr (f_ne (by omega))) (hq2 _ _ _ (by omega))
          · have he : sk T L e = L := (nI_eq (by omega) (by omega)).mp q
            rw [if_pos he] at hq2
            have hq3 : Q (nI (l ++ [ln]).length) (tx (gx V t z2) t L (-1) 0) := hq2 z2
            rw [hlen] at hq3
            rw [he]
            exact quit _ _ _ _ _ _ (Or.inl rfl) hq3
      · have hn : l.length = 12 := (nI_eq (b := 12) (by omega) (by decide)).mp w
        rw [if_pos hn] at hq
        rw [tx_a]
        refine s6_fwrong ?_
        rw [if_pos rfl]
        refine nm_r (nI_1 _) (s6_skip hTg (by omega) ?_)
        rw [tx_f, sk_sk]
        exact ⟨fun _ => quit _ _ _ _ _ _ (Or.inl rfl) (hq _ _ _ (by omega)), fun q => absurd q (f_ne (by omega))⟩
  have lp : ∀ k z l a, l.length + k = 12 → a ≤ L → pO (pLawL T L (k + 1) l a) (fun b => ∀ v z2 a2, a2 ≤ 1000 → Q v (tx (gx V t z2) t a2 (nI b) 0)) (fun ls _ => ∀ z2, Q (nI ls.length) (tx (gx V t z2) t L (-1) 0)) → wX6_read_23 t sh R 1 Q (k + 2) (tx (gx V t z) t a (-1) 0) 1 (nI l.length) := by
    intro k
    induction k with
    | zero => exact step 0 (fun k' h => absurd h (by omega))
    | succ k ih => exact step (k + 1) (fun k' h => by obtain rfl : k = k' := by omega
                                                      exact ih)
  unfold wX6_read
  unfold pLaw at hq
  refine s6_skip hTg (by decide) ?_
  rw [tx_10 hTg, tx_a]
  by_cases w : sk T L 0 < L
  · rw [if_pos w] at hq
    refine br_f (nI_ge w (by omega)) ⟨_, lp 12 z [] _ rfl hs hq⟩
  · rw [if_neg w] at hq
    refine br_t (nI_le (by omega) (by omega)) ⟨1, ?_⟩
    rw [show sk T L 0 = L by omega]
    exact quit 0 _ _ _ _ _ (Or.inl rfl) (hq z)
def lawR (m : Row) (k : Nat) (T : Nat → Nat) (L : Nat) : Row := fun j => if 619 ≤ j ∧ j < 619 + L then nI (T (j - 619)) else if j = 2 then nI L else if j = 1 then nI k else m j
def a_law (D : St) : Ot × St := match pLaw (sT D) (sL D) with
  | .inl b => (.inr (xIa, 1), (sM D, sW D, sI D, sA D, sT D, 0, nI b))
  | .inr (ls, _) => (.inl (nI ls.length), (lawR (sM D) ls.length (sT D) (sL D), some ls, sI D, [], sT D, 0, -1))
theorem pLaw_le {T : Nat → Nat} {L b : Nat} (h : pLaw T L = .inl b) : b ≤ L := by
  have lp : ∀ k l a, a ≤ L → pO (pLawL T L k l a) (fun b => b ≤ L) (fun _ _ => True) := by
    intro k
    induction k with
    | zero => intro l a ha; exact sk_le ha
    | succ k ih =>
      intro l a ha
      unfold pLawL
      split
      · exact sk_le ha
      · refine pB_pO (pO_mono (pLine_fw ha) (fun _ z => z) (fun ln e h => ?_))
        split
        · trivial
        · split
          · next w => exact ih _ _ (by have := (isS_iff.mp w).1; omega)
          · exact sk_le h.2
  unfold pLaw at h
  split at h
  · have := lp 13 [] (sk T L 0) (sk_le (Nat.zero_le _))
    rw [h] at this
    exact this
  · cases h
theorem t_law (hC : ConSh sh) (hI : TI V t D) (hO : StOk D) (hq : oP (a_law D).1 V t (a_law D).2 Q) : wX6_law t sh R V Q := by
  have hL := hO.2.2.2.2.2.1
  have hTx := bw_txt hI hO
  refine s6_begins (L := sL D) hI.2.2.2.2.1 ?_
  have bj : ∀ j, bw V t (sL D) t j = if j = 8 then 0 else if j = 10 then nI (sL D) else if j = 9 then -1 else V t j := fun j => bw_j
  have bn : ∀ b, b ≠ t → bw V t (sL D) b = V b := fun b hb => bw_n hb
  have hgx : gx (bw V t (sL D)) t (bw V t (sL D) t 17, bw V t (sL D) t 18, bw V t (sL D) t 19) = bw V t (sL D) := gx_id rfl rfl rfl
  rw [← hgx]
  have st : ∀ (z2 : Int32 × Int32 × Int32) (a : Nat) (f : Int32), (∀ j, tx (gx (bw V t (sL D)) t z2) t a f 0 t j = if j = 13 then nI 0 else if j = 12 then f else if j = 11 then nI a else if j = 19 then z2.2.2 else if j = 18 then z2.2.1 else if j = 17 then z2.1 else if j = 8 then 0 else if j = 10 then nI (sL D) else if j = 9 then -1 else V t j) ∧ ∀ b, b ≠ t → tx (gx (bw V t (sL D)) t z2) t a f 0 b = V b := by
    intro z2 a f
    exact ⟨fun j => by rw [tx_j, gx_j, bj], fun b hb => by rw [tx_b hb, gx_b hb, bn b hb]⟩
  refine s6_readLaw0 hC hTx (by rw [bj]; exact hI.j15) (by rw [bj]; exact hI.j16) ?_
  unfold a_law at hq
  rcases hr : pLaw (sT D) (sL D) with b | ⟨ls, e⟩
  · rw [hr] at hq
    have hb := pLaw_le hr
    intro v z2 a2 _
    obtain ⟨s1, s2⟩ := st z2 a2 (nI b)
    rw [tx_f]
    refine ⟨fun q => absurd q (f_ne (by omega)), fun _ => t_thr1 ?_⟩
    rw [if_neg (by decide)]
    generalize tx (gx (bw V t (sL D)) t z2) t a2 (nI b) 0 = V2 at s1 s2 ⊢
    have g : ∀ j, vset V2 t 0 1 t j = if j = 0 then 1 else V2 t j := fun j => vset_at
    have gn : ∀ b, b ≠ t → vset V2 t 0 1 b = V b := fun b hb => by rw [vset_n _ _ _ hb]; exact s2 b hb
    refine hq _ _ (TP.txt hI (fun b b1 b2 b3 => gn b b1) ?_ rfl (Or.inl ⟨rfl, ?_⟩) rfl ?_ ?_ ?_ ?_ ?_ ?_)
    · rw [gn _ (by omega)]; exact hI.1
    · rw [g, s1]; rfl
    · rw [g]; rfl
    · rw [g, s1]; rfl
    · rw [g, s1]; rfl
    · rw [g, s1]; rfl
    · rw [g, s1]; exact hI.j15
    · rw [g, s1]; exact hI.j16
  · rw [hr] at hq
    have hq2 : oP (.inl (nI ls.length)) V t (lawR (sM D) ls.length (sT D) (sL D), some ls, sI D, [], sT D, 0, -1) Q := hq
    intro z2
    obtain ⟨s1, s2⟩ := st z2 (sL D) (-1)
    rw [tx_f]
    refine br_t rfl (t_thr1 ?_)
    rw [if_pos (by decide)]
    generalize tx (gx (bw V t (sL D)) t z2) t (sL D) (-1) 0 = V2 at s1 s2 ⊢
    refine nm_r (e' := nI (sL D)) (by rw [vset_n _ _ _ (by omega), vset_at, s1]; rfl) ?_
    have g : ∀ j, vset (vset (vset V2 t 0 0) (t + 1) 1 (nI ls.length)) (t + 1) 2 (nI (sL D)) t j = if j = 0 then 0 else V2 t j := fun j => by rw [vset_n _ _ _ (by omega), vset_n _ _ _ (by omega), vset_at]
    have gn : ∀ b, b ≠ t → b ≠ t + 1 → vset (vset (vset V2 t 0 0) (t + 1) 1 (nI ls.length)) (t + 1) 2 (nI (sL D)) b = V b := fun b b1 b2 => by rw [vset_n _ _ _ b2, vset_n _ _ _ b2, vset_n _ _ _ b1]; exact s2 b b1
    have gr : ∀ j, vset (vset (vset V2 t 0 0) (t + 1) 1 (nI ls.length)) (t + 1) 2 (nI (sL D)) (t + 1) j = if j = 2 then nI (sL D) else if j = 1 then nI ls.length else sM D j := fun j => by rw [vset_at, vset_at, vset_n _ _ _ (by omega), s2 _ (by omega), hI.1]
    generalize vset (vset (vset V2 t 0 0) (t + 1) 1 (nI ls.length)) (t + 1) 2 (nI (sL D)) = V3 at g gn gr ⊢
    refine ⟨_, vloop (fun f (c : Nat → Nat → Int32) i => wX6_law_55 t sh R Q f c (nI ls.length) (nI i)) (fun i c => (∀ b, b ≠ t + 1 → c b = V3 b) ∧ ∀ j, c (t + 1) j = if 619 ≤ j ∧ j < 619 + i then nI (sT D (j - 619)) else V3 (t + 1) j) (sL D) ?_ ?_ (sL D) 0 V3 (Nat.zero_add _) ⟨fun _ _ => rfl, fun j => by rw [if_neg (by omega)]⟩⟩
    · intro f c hI2
      obtain ⟨c1, c2⟩ := hI2
      show wX6_law_55 t sh R Q (f + 1) c (nI ls.length) (nI (sL D))
      rw [wX6_law_55, c1 t (by omega), show V3 t 10 = nI (sL D) by rw [g, s1]; rfl]
      refine br_t (Int32.le_refl _) (hq2 _ (TP.txt hI (fun b b1 b2 b3 => ?_) ?_ rfl (Or.inr ⟨rfl, ?_⟩) rfl ?_ ?_ ?_ ?_ ?_ ?_))
      · rw [vset_n _ _ _ b1, c1 b b2]; exact gn b b1 b2
      · rw [vset_n _ _ _ (by omega)]
        funext j
        rw [c2]
        show _ = lawR (sM D) ls.length (sT D) (sL D) j
        unfold lawR
        rw [gr]
      · rw [vset_at, if_pos rfl]
      · rw [vset_at, if_neg (by decide), c1 t (by omega), g]; rfl
      · rw [vset_at, if_neg (by decide), c1 t (by omega), g, s1]; rfl
      · rw [vset_at, if_neg (by decide), c1 t (by omega), g, s1]; rfl
      · rw [vset_at, if_neg (by decide), c1 t (by omega), g, s1]; rfl
      · rw [vset_at, if_neg (by decide), c1 t (by omega), g, s1]; exact hI.j15
      · rw [vset_at, if_neg (by decide), c1 t (by omega), g, s1]; exact hI.j16
    · intro f c i hi hI2 hk
      obtain ⟨c1, c2⟩ := hI2
      show wX6_law_55 t sh R Q (f + 1) c (nI ls.length) (nI i)
      rw [wX6_law_55, c1 t (by omega), show V3 t 10 = nI (sL D) by rw [g, s1]; rfl, show (619 : Int32) + nI i = nI (619 + i) from nI_add 619 i, nI_clamp (n := i) (by omega), nI_clamp (n := 619 + i) (by omega)]
      refine br_f (nI_ge hi (by omega)) ⟨vp_in_nI (by omega) (by decide), nm_r (e' := nI (sT D i)) (by rw [c1 _ (by omega), gn _ (by omega) (by omega)]; exact hI.2.2.2.2.2.1 i hi) ⟨vp_in_nI (by omega) (by decide), nm_r (nI_1 i) (hk _ ⟨fun b hb => by rw [vset_n _ _ _ hb]; exact c1 b hb, fun j => ?_⟩)⟩⟩
      rw [vset_at]
      by_cases w : j = 619 + i
      · rw [if_pos w, if_pos (by omega), show j - 619 = i by omega]
      · rw [if_neg w, c2 j]
        by_cases w2 : 619 ≤ j ∧ j < 619 + i
        · rw [if_pos w2, if_pos (by omega)]
        · rw [if_neg w2, if_neg (by omega)]
end TM
