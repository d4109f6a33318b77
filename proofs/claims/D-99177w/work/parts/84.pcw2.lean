/-! ===== PURE: the component reads numbers ===== -/
section CW
variable {sh : List jH} {V : Nat → Nat → Int32} {R : Nat → Nat → Option Nat} {r a b d L c n : Nat} {T : Nat → Nat}
theorem s3_figures0 {lo hi : Int32} {Q : Int32 → List jH → (Nat → Nat → Int32) → (Nat → Nat → Option Nat) → Prop} {X : String → List jH → (Nat → Nat → Int32) → (Nat → Nat → Option Nat) → Prop} (hr : jReg shX3 sh r) (hT : TxtC V r T L) (ha : a ≤ L) (hc : 1 ≤ c) (hn : 6 ≤ n) (hq : pO (pNum lo hi T L a) (fun b => bC X sh V R r b) (fun v e => Q (nI v) sh (cx V r e (sk T L a) d) R)) : wX3_figures r sh (cx V r a b d) R c n lo hi 3 Q X := by
  have hL := hT.1
  refine s3_blanks hT (by omega) ?_
  have hs := sk_le (T := T) ha
  have hfg : fg T L (sk T L a) ≤ L := fg_le hs
  have hfg2 : sk T L a ≤ fg T L (sk T L a) := fg_ge
  unfold pNum at hq
  generalize sk T L a = g at *
  have wr : ∀ a2, ¬ (g < fg T L g ∧ fg T L g ≤ g + 3 ∧ inI (nI (vl T (fg T L g - g) g 0)) lo hi) → wX3_figures_109 r lo hi (3 : Int32) Q X sh (cx V r a2 g d) R c n := by
    intro a2 z
    rw [if_neg z] at hq
    exact ⟨c, n, 0, 0, by omega, by omega, s3_wrong hr hc hn (fun sh' q fs h1 h2 h3 => ⟨h1.reg hr, q, rfl, _, mk_atF h2, h3, hq sh' _ _ h1⟩)⟩
  suffices H : ∀ u j, g + j + u = fg T L g → wX3_figures_7 r lo hi (3 : Int32) Q X (u + 1) sh (cx V r (g + j) g d) R c n (nI (vl T (if j < 3 then j else 3) g 0)) from ⟨_, H (fg T L g - g) 0 (by omega)⟩
  intro u
  induction u with
  | zero =>
    intro j hj
    rw [wX3_figures_7, cx_a]
    have no : ¬ (g + j < L ∧ pFi (T (g + j)) = true) := fun q => by
      have h1 := rn_end (p := pFi) (T := T) (L := L) (k := L - g) (a := g) rfl (by show fg T L g < L; omega)
      rw [show rn pFi T (L - g) g = g + j by show fg T L g = _; omega, q.2] at h1
      cases h1
    have hjf : fg T L g - g = j := by omega
    have out : (nI (g + j) = cx V r (g + j) g d r 4 → wX3_figures_109 r lo hi (3 : Int32) Q X sh (cx V r (g + j) g d) R c n) ∧ (¬ nI (g + j) = cx V r (g + j) g d r 4 → (((3 : Int32) < (nI (g + j) - cx V r (g + j) g d r 4) → wX3_figures_109 r lo hi (3 : Int32) Q X sh (cx V r (g + j) g d) R c n) ∧ (¬ (3 : Int32) < (nI (g + j) - cx V r (g + j) g d r 4) → (wX1_in (nI (vl T (if j < 3 then j else 3) g 0)) lo hi (fun r103 => ((¬ r103 = 0 → Q (nI (vl T (if j < 3 then j else 3) g 0)) sh (cx V r (g + j) g d) R) ∧ (r103 = 0 → wX3_figures_109 r lo hi (3 : Int32) Q X sh (cx V r (g + j) g d) R c n))))))) := by
      rw [cx_g, pk_sub (by omega), show g + j - g = j by omega, show (3 : Int32) = nI 3 from rfl, nI_ltI (by decide) (by omega)]
      refine ⟨fun z => wr _ (fun q => ?_), fun z => ⟨fun z2 => wr _ (fun q => ?_), fun z2 => s1_in (p_bn ?_)⟩⟩
      · have := (nI_eq (by omega) (by omega)).mp z; omega
      · omega
      · have j0 : ¬ j = 0 := fun q => z (by rw [q]; rfl)
        have e3 : (if j < 3 then j else 3) = j := by split <;> omega
        rw [e3]
        split
        · next w =>
          rw [hjf, if_pos ⟨by omega, by omega, w⟩] at hq
          rw [show g + j = fg T L g by omega]
          exact hq
        · next w => exact wr _ (fun q => w (by rw [hjf] at q; exact q.2.2))
    refine s3_byteAt hT (by omega) ?_
    split
    · next z =>
      have e : inI (sb (T (g + j))) (48 : Int32) (57 : Int32) ↔ _ := sb_in (n := T (g + j)) (lo := 48) (hi := 57) (hT.2.2.1 _ z) (by decide) (by decide)
      refine s1_in ?_
      rw [show b2i (inI (sb (T (g + j))) (48 : Int32) (57 : Int32)) = 0 from b2i_f (fun q => no ⟨z, pFi_iff.mpr (e.mp q)⟩)]
      exact br_t rfl out
    · refine s1_in ?_
      rw [b2i_f (by decide)]
      exact br_t rfl out
  | succ u ih =>
    intro j hj
    have hlt : g + j < L := by omega
    have hfi : pFi (T (g + j)) = true := rn_mem (p := pFi) (T := T) (k := L - g) (a := g) (by omega) (by show _ < fg T L g; omega)
    have hf2 := pFi_iff.mp hfi
    have e : inI (sb (T (g + j))) (48 : Int32) (57 : Int32) ↔ _ := sb_in (n := T (g + j)) (lo := 48) (hi := 57) (hT.2.2.1 _ hlt) (by decide) (by decide)
    rw [wX3_figures_7, cx_a]
    refine s3_byteAt hT (by omega) ?_
    rw [if_pos hlt]
    refine s1_in ?_
    rw [show b2i (inI (sb (T (g + j))) (48 : Int32) (57 : Int32)) = 1 from b2i_t (e.mpr hf2)]
    refine br_f (by decide) ?_
    have nx : ∀ s0, s0 = nI (vl T (if j + 1 < 3 then j + 1 else 3) g 0) → wX3_figures_60 r lo hi (3 : Int32) Q X (fun sh V R c n x4 => wX3_figures_7 r lo hi (3 : Int32) Q X (u + 1) sh V R c n x4) sh (cx V r (g + j) g d) R c n s0 := by
      intro s0 hs0
      unfold wX3_figures_60
      rw [cx_a]
      refine nm_r (nI_1 _) ?_
      rw [cxs_a, hs0]
      exact ih (j + 1) (by omega)
    have le3 : (3 : Int32) ≤ nI (g + j) - cx V r (g + j) g d r 4 ↔ 3 ≤ j := by
      rw [cx_g, pk_sub (by omega), show g + j - g = j by omega, show (3 : Int32) = nI 3 from rfl, nI_leI (by decide) (by omega)]
    refine ⟨fun z => nx _ ?_, fun z => s3_byteAt hT (by omega) ?_⟩
    · have := le3.mp z
      rw [if_neg (by omega), if_neg (by omega)]
    · rw [if_pos hlt]
      have h3 : j < 3 := Nat.not_le.mp fun q => z (le3.mpr q)
      have e1 : (if j + 1 < 3 then j + 1 else 3) = j + 1 := by split <;> omega
      refine nx _ ?_
      rw [e1, if_pos h3, vl_s, show sb (T (g + j)) = nI (T (g + j)) from sb_lo ⟨T (g + j), by omega⟩, show (10 : Int32) = nI 10 from rfl, show (48 : Int32) = nI 48 from rfl, pk_mul, nI_add, pk_sub (by omega)]
theorem s3_number {lo hi : Int32} {Q : Int32 → List jH → (Nat → Nat → Int32) → (Nat → Nat → Option Nat) → Prop} {X : String → List jH → (Nat → Nat → Int32) → (Nat → Nat → Option Nat) → Prop} (hr : jReg shX3 sh r) (hT : TxtC V r T L) (ha : a ≤ L) (hc : 1 ≤ c) (hn : 6 ≤ n) (hq : pO (pNum lo hi T L a) (fun b => bC X sh V R r b) (fun v e => Q (nI v) sh (cx V r e (sk T L a) d) R)) : wX3_number r sh (cx V r a b d) R c n lo hi Q X :=
  ⟨c, n, 0, 0, by omega, by omega, s3_figures0 hr hT ha hc hn (pO_mono hq (fun _ h => h) (fun _ _ h => ⟨hr, h⟩))⟩
end CW
