/-! ===== PURE: the law's lines; the twin reads the law ===== -/
abbrev Ln : Type := Nat × Nat × Cd
def pKind (T : Nat → Nat) (L a : Nat) : Option Nat := if isW (tw 19) T L a = true then some 0 else if isW (tw 20) T L a = true then some 1 else if isW (tw 21) T L a = true then some 2 else none
def pIf (T : Nat → Nat) (L k n a : Nat) : Pz Ln := if isW (tw 13) T L a = true then pB (pSome (pAt T L 7) T L (afW (tw 13) T L a)) (fun c a3 => .inr ((k, n, c), a3)) else .inr ((k, n, fun _ => true), sk T L a)
def pLine (T : Nat → Nat) (L a : Nat) : Pz Ln := match pKind T L a with
  | none => .inl (sk T L a)
  | some k => if k = 2 then pIf T L k 0 (wd T L (sk T L a)) else pB (pNum 0 99 T L (wd T L (sk T L a))) (fun n a2 => pIf T L k n a2)
def pLawL (T : Nat → Nat) (L : Nat) : Nat → List Ln → Nat → Pz (List Ln)
  | 0, _, a => .inl (sk T L a)
  | k + 1, l, a => if l.length = 12 then .inl (sk T L a) else pB (pLine T L a) (fun ln a1 => if sk T L a1 = L then .inr (l ++ [ln], L) else if isS 59 T L a1 = true then pLawL T L k (l ++ [ln]) (sk T L a1 + 1) else .inl (sk T L a1))
def pLaw (T : Nat → Nat) (L : Nat) : Pz (List Ln) := if sk T L 0 < L then pLawL T L 13 [] (sk T L 0) else .inr ([], L)
/-- what a line does: gladness, whether there is an admit, whether one admits -/
def lnE (F : Nat → Int32) (ln : Ln) (z : Int32 × Int32 × Int32) : Int32 × Int32 × Int32 :=
  (if ln.2.2 F = true then (if ln.1 = 0 then z.1 + nI ln.2.1 else if ln.1 = 1 then z.1 + - nI ln.2.1 else z.1) else z.1, if ln.1 = 2 then 1 else z.2.1, if ln.2.2 F = true ∧ ln.1 = 2 then 1 else z.2.2)
def lsE (F : Nat → Int32) (ls : List Ln) (z : Int32 × Int32 × Int32) : Int32 × Int32 × Int32 := ls.foldl (fun z ln => lnE F ln z) z
theorem lsE_app {F : Nat → Int32} {ls : List Ln} {ln : Ln} {z : Int32 × Int32 × Int32} : lsE F (ls ++ [ln]) z = lnE F ln (lsE F ls z) := by
  unfold lsE
  rw [List.foldl_append]
  rfl
theorem lnE_jz {F : Nat → Int32} {ln : Ln} {z : Int32 × Int32 × Int32} (h : jz z.2.1 ∧ jz z.2.2) : jz (lnE F ln z).2.1 ∧ jz (lnE F ln z).2.2 := by
  unfold lnE
  refine ⟨?_, ?_⟩
  · show jz (if _ then _ else _)
    split
    · exact Or.inr rfl
    · exact h.1
  · show jz (if _ then _ else _)
    split
    · exact Or.inr rfl
    · exact h.2
theorem pKind_lt {T : Nat → Nat} {L a i : Nat} (h : pKind T L a = some i) : a < wd T L (sk T L a) ∧ i < 3 := by
  have := sk_ge (T := T) (L := L) (a := a)
  unfold pKind at h
  split at h
  · next z =>
    cases h
    have h1 := (isW_iff.mp z).1
    have h2 : 0 < (tw 19).length := by decide
    exact ⟨by omega, by decide⟩
  split at h
  · next z =>
    cases h
    have h1 := (isW_iff.mp z).1
    have h2 : 0 < (tw 20).length := by decide
    exact ⟨by omega, by decide⟩
  split at h
  · next z =>
    cases h
    have h1 := (isW_iff.mp z).1
    have h2 : 0 < (tw 21).length := by decide
    exact ⟨by omega, by decide⟩
  cases h
theorem pIf_fw {T : Nat → Nat} {L k n a : Nat} (h : a ≤ L) : fw0 L a (pIf T L k n a) := by
  unfold pIf
  split
  · have h1 := afW_ge (w := tw 13) (T := T) (L := L) (a := a)
    exact pB_pO (pO_mono (pSome_fw (fun a h => pAt_fw h) (afW_le h)) (fun _ z => z) (fun _ _ z => ⟨by omega, z.2⟩))
  · exact ⟨sk_ge, sk_le h⟩
theorem pLine_fw {T : Nat → Nat} {L a : Nat} (h : a ≤ L) : fw L a (pLine T L a) := by
  unfold pLine
  split
  · exact sk_le h
  · next k z =>
    have h1 := (pKind_lt z).1
    have h2 := wd_le (T := T) (sk_le (T := T) h)
    split
    · exact pO_mono (pIf_fw h2) (fun _ z => z) (fun _ _ z => ⟨by omega, z.2⟩)
    · exact pB_pO (pO_mono (pNum_fw h2) (fun _ z => z) (fun _ _ z => pO_mono (pIf_fw z.2) (fun _ z => z) (fun _ _ z2 => ⟨by omega, z2.2⟩)))
/-- gladness, hasAdmit, admits in the twin -/
def gx (V : Nat → Nat → Int32) (t : Nat) (z : Int32 × Int32 × Int32) : Nat → Nat → Int32 := vset (vset (vset V t 17 z.1) t 18 z.2.1) t 19 z.2.2
section TX8
variable {sh : List jH} {R : Nat → Nat → Option Nat} {V : Nat → Nat → Int32} {t L a d : Nat} {f : Int32} {T : Nat → Nat} {Q : Int32 → (Nat → Nat → Int32) → Prop} {P : (Nat → Nat → Int32) → Prop} {z : Int32 × Int32 × Int32}
theorem gx_j (j : Nat) : gx V t z t j = if j = 19 then z.2.2 else if j = 18 then z.2.1 else if j = 17 then z.1 else V t j := by
  unfold gx
  rw [vset_at, vset_at, vset_at]
theorem gx_b {b : Nat} (h : b ≠ t) : gx V t z b = V b := by
  unfold gx
  rw [vset_n _ _ _ h, vset_n _ _ _ h, vset_n _ _ _ h]
theorem gx_T (h : TxtT V t T L) : TxtT (gx V t z) t T L := by
  obtain ⟨h1, h2, h3, h4⟩ := h
  refine ⟨h1, by rw [gx_j]; exact h2, h3, ?_⟩
  rw [gx_j, gx_b (by omega), gx_b (by omega)]
  exact h4
theorem gx_F : Fx (gx V t z) t = Fx V t := by
  funext j
  unfold Fx
  rw [gx_b (by omega), gx_j, gx_j]
  rfl
theorem vset_id {V : Nat → Nat → Int32} {k i : Nat} {x : Int32} (h : V k i = x) : vset V k i x = V := by
  refine vext (k := k) (fun b hb => vset_n _ _ _ hb) (fun j => ?_)
  rw [vset_at]
  split
  · next z => rw [z, h]
  · rfl
theorem gx_gx {z2 : Int32 × Int32 × Int32} : gx (gx V t z) t z2 = gx V t z2 := by
  refine vext (k := t) (fun b hb => by rw [gx_b hb, gx_b hb, gx_b hb]) (fun j => ?_)
  rw [gx_j, gx_j, gx_j]
  split
  · rfl
  split
  · rfl
  split
  · rfl
  · rfl
theorem s6_lawLine (hC : ConSh sh) (hT : TxtT V t T L) (h15 : jz (V t 15)) (h16 : jz (V t 16)) (hz : jz z.2.1 ∧ jz z.2.2) (ha : a ≤ L) (hq : pO (pLine T L a) (fun b => ∀ a2, a2 ≤ L + 7 → P (tx (gx V t z) t a2 (nI b) 0)) (fun ln e => P (tx (gx V t (lnE (Fx V t) ln z)) t e (-1) 0))) : wX6_lawLine t sh R (tx (gx V t z) t a (-1) 0) P := by
  have hL := hT.1
  have hs := sk_le (T := T) ha
  have hTg : TxtT (gx V t z) t T L := gx_T hT
  have g17 : ∀ {a f d}, tx (gx V t z) t a f d t 17 = z.1 := fun {a f d} => by rw [tx_o (Or.inr (by decide)), gx_j]; rfl
  have g18 : ∀ {a f d}, tx (gx V t z) t a f d t 18 = z.2.1 := fun {a f d} => by rw [tx_o (Or.inr (by decide)), gx_j]; rfl
  -- the end of a line
  have fin : ∀ (k n : Nat) (c : Cd) (e : Nat), k < 3 → P (tx (gx V t (lnE (Fx V t) (k, n, c) z)) t e (-1) 0) → ∀ x3, x3 = b2i (c (Fx V t) = true) → wX6_lawLine_104 t sh R P (tx (gx V t z) t e (-1) 0) (nI k) (nI n) x3 := by
    intro k n c e hk h x3 hx
    subst hx
    have e0 : ∀ g, lnE (Fx V t) (k, n, c) z = g → P (tx (gx V t g) t e (-1) 0) := fun g hg => by rw [← hg]; exact h
    have mid : ∀ y1 y2, vset (tx (gx V t z) t e (-1) 0) t 18 y1 = tx (gx V t (z.1, y1, z.2.2)) t e (-1) 0 ∧ vset (tx (gx V t (z.1, y1, z.2.2)) t e (-1) 0) t 19 y2 = tx (gx V t (z.1, y1, y2)) t e (-1) 0 := by
      intro y1 y2
      constructor
      · rw [txs_o (Or.inr (by decide))]
        congr 1
        refine vext (k := t) (fun b hb => by rw [vset_n _ _ _ hb, gx_b hb, gx_b hb]) (fun j => ?_)
        rw [vset_at, gx_j, gx_j]
        by_cases q : j = 18
        · rw [if_pos q, if_neg (by omega), if_pos q]
        · rw [if_neg q, if_neg q, if_neg q]
      · rw [txs_o (Or.inr (by decide))]
        congr 1
        refine vext (k := t) (fun b hb => by rw [vset_n _ _ _ hb, gx_b hb, gx_b hb]) (fun j => ?_)
        rw [vset_at, gx_j, gx_j]
        by_cases q : j = 19
        · rw [if_pos q, if_pos q]
        · rw [if_neg q, if_neg q, if_neg q]
    have last : ∀ y1 y2 s, vset (tx (gx V t (z.1, y1, y2)) t e (-1) 0) t 17 s = tx (gx V t (s, y1, y2)) t e (-1) 0 := by
      intro y1 y2 s
      rw [txs_o (Or.inr (by decide))]
      congr 1
      refine vext (k := t) (fun b hb => by rw [vset_n _ _ _ hb, gx_b hb, gx_b hb]) (fun j => ?_)
      rw [vset_at, gx_j, gx_j]
      by_cases q : j = 17
      · rw [if_pos q, if_neg (by omega), if_neg (by omega), if_pos q]
      · simp only [if_neg q]
    have h19 : ∀ y1, tx (gx V t (z.1, y1, z.2.2)) t e (-1) 0 t 19 = z.2.2 := fun y1 => by rw [tx_o (Or.inr (by decide)), gx_j]; rfl
    have h17 : ∀ y1 y2, tx (gx V t (z.1, y1, y2)) t e (-1) 0 t 17 = z.1 := fun y1 y2 => by rw [tx_o (Or.inr (by decide)), gx_j]; rfl
    -- glad at last
    have g1 : ∀ y1 y2, jz y1 → (if k = 2 then (1 : Int32) else z.2.1) = y1 → c (Fx V t) = true → (if k = 2 then (1 : Int32) else z.2.2) = y2 → jz y2 → wX6_lawLine_158 t sh R P (tx (gx V t (z.1, y1, z.2.2)) t e (-1) 0) (nI k) (nI n) y2 := by
      intro y1 y2 _ e1 hc e2 hj
      refine ⟨hj, ?_⟩
      rw [(mid y1 y2).2, h17]
      have hend : ∀ s, (if k = 0 then z.1 + nI n else if k = 1 then z.1 + - nI n else z.1) = s → P (tx (gx V t (s, y1, y2)) t e (-1) 0) := fun s hs => e0 _ (by
        unfold lnE
        rw [if_pos hc, hs, show (if (k, n, c).1 = 2 then (1 : Int32) else z.2.1) = y1 from e1]
        congr 2
        rw [← e2]
        by_cases q : k = 2
        · rw [if_pos ⟨hc, q⟩, if_pos q]
        · rw [if_neg (fun w => q w.2), if_neg q])
      refine ⟨fun q0 => ⟨fun q1 => nm_e ?_, fun q1 => nm_e ?_⟩, fun q0 => nm_e ?_⟩
      · rw [last, show z.1 + (0 : Int32) = z.1 by simp]
        refine hend _ ?_
        rw [if_neg (fun w => q0 (by rw [w]; rfl)), if_neg (fun w => q1 (by rw [w]; rfl))]
      · rw [last]
        have w : k = 1 := (nI_eq (b := 1) (by omega) (by decide)).mp q1
        refine hend _ ?_
        rw [if_neg (by omega), if_pos w]
      · rw [last]
        have w : k = 0 := (nI_eq (b := 0) (by omega) (by decide)).mp q0
        refine hend _ ?_
        rw [if_pos w]
    have g2 : ∀ y1, jz y1 → (if k = 2 then (1 : Int32) else z.2.1) = y1 → wX6_lawLine_132 t sh R P (tx (gx V t z) t e (-1) 0) (nI k) (nI n) (b2i (c (Fx V t) = true)) y1 := by
      intro y1 hj e1
      refine ⟨hj, ?_⟩
      rw [(mid y1 0).1, h19]
      refine ⟨fun q => ?_, fun q => ?_⟩
      · have hc : c (Fx V t) = true := Classical.byContradiction fun w => q (b2i_f w)
        refine ⟨fun w => g1 y1 1 hj e1 hc ?_ (Or.inr rfl), fun w => ⟨fun w2 => g1 y1 0 hj e1 hc ?_ (Or.inl rfl), fun w2 => g1 y1 1 hj e1 hc ?_ (Or.inr rfl)⟩⟩
        · split
          · rfl
          · exact hz.2.resolve_left w
        · rw [if_neg (fun w3 => w2 (by rw [w3]; rfl))]; exact w
        · rw [if_pos ((nI_eq (b := 2) (by omega) (by decide)).mp w2)]
      · have hc : ¬ c (Fx V t) = true := b2i_0.mp q
        refine e0 _ ?_
        unfold lnE
        rw [if_neg hc, show (if (k, n, c).1 = 2 then (1 : Int32) else z.2.1) = y1 from e1, if_neg (fun w => hc w.1)]
    unfold wX6_lawLine_104
    rw [tx_f, g18]
    refine br_t rfl ⟨fun q => g2 1 (Or.inr rfl) ?_, fun q => ⟨fun w => g2 0 (Or.inl rfl) ?_, fun w => g2 1 (Or.inr rfl) ?_⟩⟩
    · split
      · rfl
      · exact hz.1.resolve_left q
    · rw [if_neg (fun w3 => w (by rw [w3]; rfl))]; exact q
    · rw [if_pos ((nI_eq (b := 2) (by omega) (by decide)).mp w)]
  -- the condition of a line
  have mif : ∀ (k n e : Nat), k < 3 → e ≤ L → pO (pIf T L k n e) (fun b => ∀ a2, a2 ≤ L + 7 → P (tx (gx V t z) t a2 (nI b) 0)) (fun ln e => P (tx (gx V t (lnE (Fx V t) ln z)) t e (-1) 0)) → wX6_lawLine_72 t sh R P (tx (gx V t z) t e (-1) 0) (nI k) (nI n) := by
    intro k n e hk he hq
    unfold wX6_lawLine_72
    rw [tx_f]
    refine br_t rfl (s6_has (w := tw 13) (by decide) (fun V R => str_13 hC.g) hTg (by omega) ?_)
    unfold pIf at hq
    split
    · next z1 =>
      rw [if_pos z1] at hq
      have h1 := afW_le (w := tw 13) (T := T) he
      refine br_f (by decide) ⟨7, by decide, s6_some hC hTg (fun a h => pAt_fw h) (fun a Q ha hq => s6_atom hC hTg (by rw [gx_j]; exact h15) (by rw [gx_j]; exact h16) 6 0 a Q (by decide) ha hq) h1 (pO_mono (pO_and (pO_B hq) (pSome_fw (fun a h => pAt_fw h) h1)) (fun b h v a2 hv h3 => ?_) (fun c e2 h => ?_))⟩
      · have bd : ∀ s, wX6_lawLine_104 t sh R P (tx (gx V t z) t a2 (nI b) 0) (nI k) (nI n) s := fun s => by
          unfold wX6_lawLine_104
          rw [tx_f]
          exact ⟨fun w => absurd w (f_ne (by have := h.2; omega)), fun _ => h.1 a2 h3⟩
        exact ⟨fun _ => bd _, fun _ => bd _⟩
      · rw [gx_F]
        refine ⟨fun w => fin k n c e2 hk h.1 0 (b2i_f (b2i_0.mp w)).symm, fun w => fin k n c e2 hk h.1 1 (b2i_t (Classical.byContradiction fun q => w (b2i_f q))).symm⟩
    · next z1 =>
      rw [if_neg z1] at hq
      rw [afW_no z1]
      exact br_t rfl (fin k n _ _ hk hq 1 (b2i_t rfl).symm)
  have knd : ∀ (k e : Nat), k < 3 → e ≤ L → pO (if k = 2 then pIf T L k 0 e else pB (pNum 0 99 T L e) (fun n a2 => pIf T L k n a2)) (fun b => ∀ a2, a2 ≤ L + 7 → P (tx (gx V t z) t a2 (nI b) 0)) (fun ln e => P (tx (gx V t (lnE (Fx V t) ln z)) t e (-1) 0)) → wX6_lawLine_41 t sh R P (tx (gx V t z) t e (-1) 0) (nI k) := by
    intro k e hk he hq
    refine ⟨fun _ => ⟨fun w => ?_, fun w => ?_⟩, fun w => absurd w (nI_nm1 (by omega))⟩
    · rw [if_neg (fun w3 => w (by rw [w3]; rfl))] at hq
      refine s6_figures hTg he (pO_mono (pO_and (pO_B hq) (pNum_fw he)) (fun b h v a2 hv h3 => ?_) (fun n e2 h => mif k n e2 hk h.2.2 h.1))
      unfold wX6_lawLine_72
      rw [tx_f]
      exact ⟨fun w => absurd w (f_ne (by have := h.2; omega)), fun _ => h.1 a2 (by omega)⟩
    · have k2 : k = 2 := (nI_eq (b := 2) (by omega) (by decide)).mp w
      rw [if_pos k2] at hq
      exact mif k 0 e hk he hq
  have none : pKind T L a = none → wX6_lawLine_41 t sh R P (tx (gx V t z) t (sk T L a) (-1) 0) (-1) := by
    intro h
    unfold pLine at hq
    rw [h] at hq
    refine ⟨fun w => absurd rfl w, fun _ => ?_⟩
    rw [tx_a]
    refine s6_fwrong ?_
    rw [if_pos rfl]
    exact hq _ (by omega)
  have some : ∀ k, pKind T L a = some k → ∀ e, e = wd T L (sk T L a) → wX6_lawLine_41 t sh R P (tx (gx V t z) t e (-1) 0) (nI k) := by
    intro k h e he
    unfold pLine at hq
    rw [h] at hq
    rw [he]
    exact knd k _ (pKind_lt h).2 (wd_le hs) hq
  unfold pKind at none some
  unfold wX6_lawLine
  refine s6_has (w := tw 19) (by decide) (fun V R => str_19 hC.g) hTg (by omega) ?_
  by_cases z0 : isW (tw 19) T L a = true
  · rw [if_pos z0]
    exact br_f (by decide) (some 0 (if_pos z0) _ (afW_yes z0))
  rw [if_neg z0, afW_no z0]
  refine br_t rfl (s6_has (w := tw 20) (by decide) (fun V R => str_20 hC.g) hTg (by omega) ?_)
  rw [isW_sk, afW_sk]
  by_cases z1 : isW (tw 20) T L a = true
  · rw [if_pos z1]
    exact br_f (by decide) (some 1 (by rw [if_neg z0, if_pos z1]) _ (afW_yes z1))
  rw [if_neg z1, afW_no z1]
  refine br_t rfl (s6_has (w := tw 21) (by decide) (fun V R => str_21 hC.g) hTg (by omega) ?_)
  rw [isW_sk, afW_sk]
  by_cases z2 : isW (tw 21) T L a = true
  · rw [if_pos z2]
    exact br_f (by decide) (some 2 (by rw [if_neg z0, if_neg z1, if_pos z2]) _ (afW_yes z2))
  rw [if_neg z2, afW_no z2]
  exact br_t rfl (none (by rw [if_neg z0, if_neg z1, if_neg z2]))
end TX8
