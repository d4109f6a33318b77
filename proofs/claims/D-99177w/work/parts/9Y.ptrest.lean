/-! ===== PURE: feed end fault seed undo image back count of the twin ===== -/
def fB (v s : Int32) : Int32 := (v.toUInt32 >>> (s.toUInt32 &&& Int32.toUInt32 31)).toInt32 &&& (255 : Int32)
def feedV (a b c d e : Int32) (k : Nat) : Int32 := if k < 4 then a else if k < 8 then b else if k < 12 then c else if k < 16 then d else e
def feedT (T : Nat → Nat) (L : Nat) (a b c d e : Int32) : Nat → Nat := fun i => if i < L then T i else (fB (feedV a b c d e (i - L)) (nI (24 - 8 * ((i - L) % 4)))).toNatClampNeg
theorem and255 (y : Int32) : ∃ n, n < 256 ∧ y &&& (255 : Int32) = nI n := by
  refine ⟨(y &&& (255 : Int32)).toBitVec.toNat, ?_, ?_⟩
  · rw [Int32.toBitVec_and, BitVec.toNat_and]
    exact Nat.lt_of_le_of_lt Nat.and_le_right (by decide)
  · rw [← Int32.toBitVec_inj]
    apply BitVec.eq_of_toNat_eq
    rw [pk_tn (BitVec.isLt _)]
theorem fB_nI (v s : Int32) : (fB v s).toNatClampNeg < 256 ∧ fB v s = nI (fB v s).toNatClampNeg := by
  obtain ⟨n, h1, h2⟩ := and255 ((v.toUInt32 >>> (s.toUInt32 &&& Int32.toUInt32 31)).toInt32)
  have e : fB v s = nI n := h2
  rw [e, nI_clamp (by omega)]
  exact ⟨h1, rfl⟩
def feedD (D : St) (a b c d e : Int32) : St := (sM D, sW D, sI D, sA D, feedT (sT D) (sL D) a b c d e, sL D + 20, sF D)
section TR
variable {sh : List jH} {R : Nat → Nat → Option Nat} {V : Nat → Nat → Int32} {t : Nat} {D : St} {a b c d e k : Int32} {Q : Int32 → (Nat → Nat → Int32) → Prop} {P : (Nat → Nat → Int32) → Prop}
theorem t_feed (hI : TI V t D) (hO : StOk D) (hq : if sL D + 20 ≤ 400 then ∀ V', TP V t (feedD D a b c d e) 0 V' → Q (nI (sL D + 20)) V' else ∀ V', TP V t D 0 V' → Q (-1) V') : wX6_feed t V a b c d e Q := by
  have hL := hO.2.2.2.2.2.1
  have h0 := TP.thr (e := 0) hI
  unfold wX6_feed
  generalize vset V t 0 0 = V1 at h0 ⊢
  obtain ⟨⟨a1, a2, a3, a4, a5, a6, a7, a8, a9⟩, b1, b2⟩ := id h0
  rw [a5, show nI (sL D) + (20 : Int32) = nI (sL D + 20) from nI_add _ 20]
  by_cases z : sL D + 20 ≤ 400
  · rw [if_pos z] at hq
    refine br_t (nI_le (b := 400) z (by decide)) ⟨_, vloop (fun f (g : Nat → Nat → Int32) i => wX6_feed_23 t a b c d e Q f g (nI i)) (fun i g => (∀ b, b ≠ t → b ≠ t + 5 → g b = V1 b) ∧ (∀ j, g t j = if j = 8 then nI (sL D + i) else V1 t j) ∧ ∀ j, j < sL D + i → g (t + 5) j = nI (feedT (sT D) (sL D) a b c d e j)) 20 ?_ ?_ 20 0 V1 (Nat.zero_add _) ⟨fun _ _ _ => rfl, fun j => ?_, fun j hj => ?_⟩⟩
    · intro f g hI
      obtain ⟨g1, g2, g3⟩ := hI
      show wX6_feed_23 t a b c d e Q (f + 1) g (nI 20)
      rw [wX6_feed_23, show g t 8 = nI (sL D + 20) from g2 8]
      refine br_t (by decide) (hq g ⟨⟨?_, ?_, ?_, ?_, ?_, ?_, ?_, ?_, ?_⟩, ?_, ?_⟩)
      · rw [g1 _ (by omega) (by omega)]; exact a1
      · exact a2.frame (g1 _ (by omega) (by omega)) (g2 3)
      · exact (g2 6).trans a3
      · intro i j hi hj
        rw [g1 _ (by omega) (by omega)]; exact a4 i j hi hj
      · exact g2 8
      · intro i hi
        exact g3 i hi
      · exact (g2 12).trans a7
      · rw [g2 15]; exact a8
      · rw [g2 16]; exact a9
      · exact (g2 0).trans b1
      · intro b hb
        rw [g1 _ (by omega) (by omega)]; exact b2 b hb
    · intro f g i hi hI hk
      obtain ⟨g1, g2, g3⟩ := hI
      have st : wX6_feed_76 t a b c d e Q (fun V x6 => wX6_feed_23 t a b c d e Q f V x6) g (nI i) (feedV a b c d e i) := by
        unfold wX6_feed_76
        rw [show nI i - nI i / (4 : Int32) * (4 : Int32) = nI (i % 4) from nI_modN (a := i) (b := 4) (by omega) (by decide), show (8 : Int32) * nI (i % 4) = nI (8 * (i % 4)) from pk_mul 8 _, show (24 : Int32) - nI (8 * (i % 4)) = nI (24 - 8 * (i % 4)) from pk_sub (a := 24) (by omega), show g t 8 = nI (sL D + i) from g2 8, nI_clamp (by omega)]
        have e1 := fB_nI (feedV a b c d e i) (nI (24 - 8 * (i % 4)))
        refine nm_r (e' := nI (fB (feedV a b c d e i) (nI (24 - 8 * (i % 4)))).toNatClampNeg) e1.2 ⟨vp_in_nI (by omega) (by decide), nm_r (e' := nI (sL D + i + 1)) (by rw [vset_n _ _ _ (by omega), g2 8]; exact nI_1 _) (nm_r (nI_1 i) (hk _ ⟨fun b b1 b2 => ?_, fun j => ?_, fun j hj => ?_⟩))⟩
        · rw [vset_n _ _ _ b1, vset_n _ _ _ b2]
          exact g1 b b1 b2
        · rw [vset_at]
          by_cases w : j = 8
          · rw [if_pos w, if_pos w]; rfl
          · rw [if_neg w, if_neg w, vset_n _ _ _ (by omega), g2 j, if_neg w]
        · rw [vset_n _ _ _ (by omega), vset_at]
          by_cases w : j = sL D + i
          · rw [if_pos w]
            unfold feedT
            rw [if_neg (by omega), show j - sL D = i by omega]
          · rw [if_neg w]
            exact g3 j (by omega)
      show wX6_feed_23 t a b c d e Q (f + 1) g (nI i)
      rw [wX6_feed_23]
      refine br_f (nI_ge hi (by decide)) ?_
      unfold feedV at st
      by_cases w1 : i < 4
      · rw [if_pos w1] at st
        exact br_f (nI_ge (b := 4) w1 (by decide)) st
      · rw [if_neg w1] at st
        refine br_t (nI_le (a := 4) (by omega) (by omega)) ?_
        by_cases w2 : i < 8
        · rw [if_pos w2] at st
          exact br_f (nI_ge (b := 8) w2 (by decide)) st
        · rw [if_neg w2] at st
          refine br_t (nI_le (a := 8) (by omega) (by omega)) ?_
          by_cases w3 : i < 12
          · rw [if_pos w3] at st
            exact br_f (nI_ge (b := 12) w3 (by decide)) st
          · rw [if_neg w3] at st
            refine br_t (nI_le (a := 12) (by omega) (by omega)) ?_
            by_cases w4 : i < 16
            · rw [if_pos w4] at st
              exact br_f (nI_ge (b := 16) w4 (by decide)) st
            · rw [if_neg w4] at st
              exact br_t (nI_le (a := 16) (by omega) (by omega)) st
    · by_cases w : j = 8
      · rw [if_pos w, w]; exact a5
      · rw [if_neg w]
    · rw [a6 j hj]
      unfold feedT
      rw [if_pos (by omega)]
  · rw [if_neg z] at hq
    exact br_f (nI_ge (b := sL D + 20) (a := 400) (by omega) (by omega)) (hq _ h0)
theorem t_end (hI : TI V t D) (hO : StOk D) (hq : if inI a 0 (nI (sL D)) then ∀ V', TP V t (sM D, sW D, sI D, sA D, sT D, a.toNatClampNeg, sF D) 0 V' → Q 1 V' else ∀ V', TP V t D 0 V' → Q 0 V') : wX6_end t V a Q := by
  have hL := hO.2.2.2.2.2.1
  have h0 := TP.thr (e := 0) hI
  unfold wX6_end
  generalize vset V t 0 0 = V1 at h0 ⊢
  obtain ⟨⟨a1, a2, a3, a4, a5, a6, a7, a8, a9⟩, b1, b2⟩ := id h0
  rw [a5]
  refine s6_isIn (p_bn ?_)
  split
  · next c1 =>
    rw [if_pos c1] at hq
    obtain ⟨n, hn, rfl⟩ := (inI_lit (by omega)).mp c1
    rw [nI_clamp (by omega)] at hq
    have g : ∀ j, j ≠ 8 → vset V1 t 8 (nI n) t j = V1 t j := fun j hj => by rw [vset_at, if_neg hj]
    have h : ∀ b, b ≠ t → vset V1 t 8 (nI n) b = V1 b := fun b hb => vset_n _ _ _ hb
    refine hq _ ⟨⟨?_, ?_, ?_, ?_, ?_, ?_, ?_, ?_, ?_⟩, ?_, ?_⟩
    · rw [h _ (by omega)]; exact a1
    · exact a2.frame (h _ (by omega)) (g 3 (by decide))
    · exact (g 6 (by decide)).trans a3
    · intro i j hi hj
      rw [h _ (by omega)]; exact a4 i j hi hj
    · rw [vset_at, if_pos rfl]
    · intro i hi
      rw [h _ (by omega)]
      have hi2 : i < n := hi
      exact a6 i (by omega)
    · exact (g 12 (by decide)).trans a7
    · rw [g 15 (by decide)]; exact a8
    · rw [g 16 (by decide)]; exact a9
    · exact (g 0 (by decide)).trans b1
    · intro b hb
      rw [h _ (by omega)]; exact b2 b hb
  · next c1 =>
    rw [if_neg c1] at hq
    exact hq _ h0
theorem t_fault (hI : TI V t D) (hq : ∀ V', TP V t D 0 V' → Q (sF D) V') : wX6_fault t V Q := by
  have h0 := TP.thr (e := 0) hI
  unfold wX6_fault
  rw [h0.1.2.2.2.2.2.2.1]
  exact hq _ h0
theorem t_seed (hI : TI V t D) (hq : ∀ V', TP V t (upd (sM D) 10 a, D.2) 0 V' → Q (sM D 10) V') : wX6_seed t V a Q := by
  have h0 := TP.thr (e := 0) hI
  unfold wX6_seed
  refine nm_r (e' := sM D 10) (by rw [h0.1.row]) ?_
  exact h0.put (P := Q _) (fun h => hq _ h)
/-- the row, but for what is below n another one's -/
def ovr (z m : Row) (n : Nat) : Row := fun j => if j < n then z j else m j
def undoD (D : St) : St := (ovr (aRow (sA D) ((sA D).length - 1)) (sM D) 619, sW D, sI D, (sA D).dropLast, sT D, sL D, sF D)
theorem t_undo (hI : TI V t D) (hO : StOk D) (hq : if (sA D).length = 0 then ∀ V', TP V t D 0 V' → Q 0 V' else ∀ V', TP V t (undoD D) 0 V' → Q 1 V') : wX6_undo t V Q := by
  have h12 := hO.2.2.2.1
  have h0 := TP.thr (e := 0) hI
  unfold wX6_undo
  generalize vset V t 0 0 = V1 at h0 ⊢
  obtain ⟨⟨a1, a2, a3, a4, a5, a6, a7, a8, a9⟩, b1, b2⟩ := id h0
  rw [a3]
  by_cases z : (sA D).length = 0
  · rw [if_pos z] at hq
    exact ⟨fun q => absurd (by rw [z]; rfl) q, fun _ => hq _ h0⟩
  · rw [if_neg z] at hq
    obtain ⟨A, hA⟩ : ∃ A, (sA D).length = A + 1 := ⟨(sA D).length - 1, by omega⟩
    refine ⟨fun _ => nm_r (e' := nI A) (by rw [hA]; exact nI_pred A) ?_, fun q => absurd ((nI_eq (b := 0) (by omega) (by decide)).mp q) z⟩
    have e6 : ∀ j, vset V1 t 6 (nI A) t j = if j = 6 then nI A else V1 t j := fun j => vset_at
    have en : ∀ b, b ≠ t → vset V1 t 6 (nI A) b = V1 b := fun b hb => vset_n _ _ _ hb
    generalize vset V1 t 6 (nI A) = V2 at e6 en ⊢
    refine ⟨_, vloop (fun f (c : Nat → Nat → Int32) i => wX6_undo_26 t Q f c (nI i)) (fun i c => (∀ b, b ≠ t + 1 → c b = V2 b) ∧ ∀ j, c (t + 1) j = if j < i then aRow (sA D) A j else sM D j) 619 ?_ ?_ 619 0 V2 (Nat.zero_add _) ⟨fun _ _ => rfl, fun j => by rw [if_neg (by omega), en _ (by omega), a1]⟩⟩
    · intro f c hI
      obtain ⟨c1, c2⟩ := hI
      show wX6_undo_26 t Q (f + 1) c (nI 619)
      rw [wX6_undo_26]
      have ct : ∀ j, c t j = if j = 6 then nI A else V1 t j := fun j => by rw [c1 t (by omega)]; exact e6 j
      have cn : ∀ b, b ≠ t → b ≠ t + 1 → c b = V1 b := fun b h1 h2 => (c1 b h2).trans (en b h1)
      have hdl : (sA D).dropLast.length = A := by rw [List.length_dropLast, hA]; rfl
      refine br_t (by decide) (hq c ⟨⟨?_, ?_, ?_, ?_, ?_, ?_, ?_, ?_, ?_⟩, ?_, ?_⟩)
      · show c (t + 1) = ovr (aRow (sA D) ((sA D).length - 1)) (sM D) 619
        rw [hA]
        funext j
        exact c2 j
      · exact a2.frame (cn _ (by omega) (by omega)) (ct 3)
      · show c t 6 = nI (sA D).dropLast.length
        rw [hdl]
        exact ct 6
      · intro i j hi hj
        have hi2 : i < (sA D).dropLast.length := hi
        rw [hdl] at hi2
        rw [cn _ (by omega) (by omega), a4 i j (by omega) hj]
        show aRow (sA D) i j = aRow (sA D).dropLast i j
        unfold aRow
        rw [List.getD_eq_getElem?_getD, List.getD_eq_getElem?_getD, List.getElem?_dropLast, if_pos (by omega)]
      · exact (ct 8).trans a5
      · intro i hi
        rw [cn _ (by omega) (by omega)]; exact a6 i hi
      · exact (ct 12).trans a7
      · rw [ct 15]; exact a8
      · rw [ct 16]; exact a9
      · exact (ct 0).trans b1
      · intro b hb
        rw [cn _ (by omega) (by omega)]; exact b2 b hb
    · intro f c i hi hI hk
      obtain ⟨c1, c2⟩ := hI
      show wX6_undo_26 t Q (f + 1) c (nI i)
      rw [wX6_undo_26, c1 t (by omega), show V2 t 6 = nI A from e6 6, show (619 : Int32) * nI A + nI i = nI (619 * A + i) by rw [show (619 : Int32) = nI 619 from rfl, pk_mul, nI_add], nI_clamp (n := i) (by omega), nI_clamp (n := 619 * A + i) (by omega)]
      refine br_f (nI_ge hi (by decide)) ⟨vp_in_nI (by omega) (by decide), nm_e ⟨vp_in_nI (by omega) (by decide), nm_r (nI_1 i) ?_⟩⟩
      refine hk _ ⟨fun b hb => by rw [vset_n _ _ _ hb]; exact c1 b hb, fun j => ?_⟩
      rw [vset_at]
      by_cases w : j = i
      · rw [if_pos w, if_pos (by omega), c1 _ (by omega), en _ (by omega), a4 A i (by omega) hi, w]
      · rw [if_neg w, c2 j]
        by_cases w2 : j < i
        · rw [if_pos w2, if_pos (by omega)]
        · rw [if_neg w2, if_neg (by omega)]
def imgD (D : St) : St := (sM D, sW D, some (sM D, sW D), sA D, sT D, sL D, sF D)
theorem t_image (hI : TI V t D) (hq : ∀ V', TP V t (imgD D) 0 V' → P V') : wX6_image t V P := by
  have h0 := TP.thr (e := 0) hI
  unfold wX6_image
  generalize vset V t 0 0 = V1 at h0 ⊢
  obtain ⟨⟨a1, a2, a3, a4, a5, a6, a7, a8, a9⟩, b1, b2⟩ := id h0
  refine ⟨_, vloop (fun f (c : Nat → Nat → Int32) i => wX6_image_7 t P f c (nI i)) (fun i c => (∀ b, b ≠ t + 2 → c b = V1 b) ∧ ∀ j, j < i → c (t + 2) j = sM D j) 1019 ?_ ?_ 1019 0 V1 (Nat.zero_add _) ⟨fun _ _ => rfl, fun j hj => absurd hj (by omega)⟩⟩
  · intro f c hI
    obtain ⟨c1, c2⟩ := hI
    show wX6_image_7 t P (f + 1) c (nI 1019)
    rw [wX6_image_7]
    have ct : ∀ j, vset c t 3 1 t j = if j = 3 then 1 else V1 t j := fun j => by rw [vset_at, c1 t (by omega)]
    have cn : ∀ b, b ≠ t → b ≠ t + 2 → vset c t 3 1 b = V1 b := fun b h1 h2 => by rw [vset_n _ _ _ h1]; exact c1 b h2
    refine br_t (by decide) (hq _ ⟨⟨?_, ?_, ?_, ?_, ?_, ?_, ?_, ?_, ?_⟩, ?_, ?_⟩)
    · rw [cn _ (by omega) (by omega)]; exact a1
    · exact ⟨ct 3, fun j hj => by rw [vset_n _ _ _ (by omega)]; exact c2 j hj⟩
    · exact (ct 6).trans a3
    · intro i j hi hj
      rw [cn _ (by omega) (by omega)]; exact a4 i j hi hj
    · exact (ct 8).trans a5
    · intro i hi
      rw [cn _ (by omega) (by omega)]; exact a6 i hi
    · exact (ct 12).trans a7
    · rw [ct 15]; exact a8
    · rw [ct 16]; exact a9
    · exact (ct 0).trans b1
    · intro b hb
      rw [cn _ (by omega) (by omega)]; exact b2 b hb
  · intro f c i hi hI hk
    obtain ⟨c1, c2⟩ := hI
    show wX6_image_7 t P (f + 1) c (nI i)
    rw [wX6_image_7, nI_clamp (n := i) (by omega)]
    refine br_f (nI_ge hi (by decide)) ⟨vp_in_nI hi (by decide), nm_e ⟨vp_in_nI hi (by decide), nm_r (nI_1 i) ?_⟩⟩
    refine hk _ ⟨fun b hb => by rw [vset_n _ _ _ hb]; exact c1 b hb, fun j hj => ?_⟩
    rw [vset_at]
    split
    · next w => rw [w, c1 _ (by omega), a1]
    · next w => exact c2 j (by omega)
def backD (D : St) (z : Row × Option (List Ln)) : St := (ovr z.1 (sM D) 1019, z.2, sI D, [], sT D, sL D, sF D)
theorem t_back (hI : TI V t D) (hq : match sI D with | none => ∀ V', TP V t D 0 V' → Q 0 V' | some z => ∀ V', TP V t (backD D z) 0 V' → Q 1 V') : wX6_back t V Q := by
  have h0 := TP.thr (e := 0) hI
  unfold wX6_back
  generalize vset V t 0 0 = V1 at h0 ⊢
  obtain ⟨⟨a1, a2, a3, a4, a5, a6, a7, a8, a9⟩, b1, b2⟩ := id h0
  cases hz : sI D with
  | none =>
    rw [hz] at hq a2
    have a2' : V1 t 3 = 0 := a2
    rw [a2']
    exact ⟨fun q => absurd rfl q, fun _ => hq _ h0⟩
  | some z =>
    rw [hz] at hq
    have a2' : V1 t 3 = 1 ∧ ∀ j, j < 1019 → V1 (t + 2) j = z.1 j := by rw [hz] at a2; exact a2
    rw [a2'.1]
    refine ⟨fun _ => ?_, fun q => absurd q (by decide)⟩
    refine ⟨_, vloop (fun f (c : Nat → Nat → Int32) i => wX6_back_16 t Q f c (nI i)) (fun i c => (∀ b, b ≠ t + 1 → c b = V1 b) ∧ ∀ j, c (t + 1) j = if j < i then z.1 j else sM D j) 1019 ?_ ?_ 1019 0 V1 (Nat.zero_add _) ⟨fun _ _ => rfl, fun j => by rw [if_neg (by omega), a1]⟩⟩
    · intro f c hI
      obtain ⟨c1, c2⟩ := hI
      show wX6_back_16 t Q (f + 1) c (nI 1019)
      rw [wX6_back_16]
      have ct : ∀ j, vset c t 6 0 t j = if j = 6 then 0 else V1 t j := fun j => by rw [vset_at, c1 t (by omega)]
      have cn : ∀ b, b ≠ t → b ≠ t + 1 → vset c t 6 0 b = V1 b := fun b h1 h2 => by rw [vset_n _ _ _ h1]; exact c1 b h2
      refine br_t (by decide) (hq _ ⟨⟨?_, ?_, ?_, ?_, ?_, ?_, ?_, ?_, ?_⟩, ?_, ?_⟩)
      · rw [vset_n _ _ _ (by omega)]
        funext j
        exact c2 j
      · exact a2.frame (cn _ (by omega) (by omega)) (ct 3)
      · exact ct 6
      · intro i j hi hj
        exact absurd hi (by show ¬ i < 0; omega)
      · exact (ct 8).trans a5
      · intro i hi
        rw [cn _ (by omega) (by omega)]; exact a6 i hi
      · exact (ct 12).trans a7
      · rw [ct 15]; exact a8
      · rw [ct 16]; exact a9
      · exact (ct 0).trans b1
      · intro b hb
        rw [cn _ (by omega) (by omega)]; exact b2 b hb
    · intro f c i hi hI hk
      obtain ⟨c1, c2⟩ := hI
      show wX6_back_16 t Q (f + 1) c (nI i)
      rw [wX6_back_16, nI_clamp (n := i) (by omega)]
      refine br_f (nI_ge hi (by decide)) ⟨vp_in_nI hi (by decide), nm_e ⟨vp_in_nI hi (by decide), nm_r (nI_1 i) ?_⟩⟩
      refine hk _ ⟨fun b hb => by rw [vset_n _ _ _ hb]; exact c1 b hb, fun j => ?_⟩
      rw [vset_at]
      by_cases w : j = i
      · rw [if_pos w, if_pos (by omega), c1 _ (by omega), a2'.2 i hi, w]
      · rw [if_neg w, c2 j]
        by_cases w2 : j < i
        · rw [if_pos w2, if_pos (by omega)]
        · rw [if_neg w2, if_neg (by omega)]
def f_count (m : Row) (A : Nat) (a : Int32) : Int32 := if a = 0 then m 3 else if a = 1 then m 4 else if a = 2 then m 0 else if a = 3 then m 1 else if a = 4 then m 6 else if a = 5 then m 5 else if a = 6 then m 7 else if a = 7 then m 8 else if a = 8 then f_bookings m else if a = 9 then f_gladness m else if a = 10 then m 9 else if a = 11 then nI A else -1
theorem in67 {a : Int32} (h : inI a 6 7) : a = 6 ∨ a = 7 := by
  obtain ⟨h1, h2⟩ := h
  have h3 : ¬ a < 0 := fun z => h1 (Int32.lt_trans z (by decide))
  obtain ⟨n, hn, rfl⟩ := (inI_lit (n := 7) (by decide)).mp ⟨h3, h2⟩
  rw [show (6 : Int32) = nI 6 from rfl, nI_ltI (by omega) (by decide)] at h1
  obtain rfl | rfl : n = 6 ∨ n = 7 := by omega
  · exact Or.inl rfl
  · exact Or.inr rfl
theorem t_count (hI : TI V t D) (hO : StOk D) (hq : ∀ V', TP V t D 0 V' → Q (f_count (sM D) (sA D).length a) V') : wX6_count t V a Q := by
  have hR := hO.1
  have h0 := TP.thr (e := 0) hI
  unfold wX6_count
  generalize vset V t 0 0 = V1 at h0 ⊢
  have hq0 := hq _ h0
  have hm := h0.1.row
  unfold f_count at hq0
  rw [hm, h0.1.2.2.1]
  refine ⟨fun z0 => ?_, fun z0 => by rw [if_pos z0] at hq0; exact hq0⟩
  rw [if_neg z0] at hq0
  refine ⟨fun z1 => ?_, fun z1 => by rw [if_pos z1] at hq0; exact hq0⟩
  rw [if_neg z1] at hq0
  refine ⟨fun z2 => ?_, fun z2 => by rw [if_pos z2] at hq0; exact hq0⟩
  rw [if_neg z2] at hq0
  refine ⟨fun z3 => ?_, fun z3 => by rw [if_pos z3] at hq0; exact hq0⟩
  rw [if_neg z3] at hq0
  refine ⟨fun z4 => ?_, fun z4 => by rw [if_pos z4] at hq0; exact hq0⟩
  rw [if_neg z4] at hq0
  refine ⟨fun z5 => ?_, fun z5 => by rw [if_pos z5] at hq0; exact hq0⟩
  rw [if_neg z5] at hq0
  refine s6_isIn (p_bz ?_)
  split
  · next c1 =>
    rcases in67 c1 with rfl | rfl
    · rw [if_pos rfl] at hq0
      rw [show (7 : Int32) + 6 - 6 = nI 7 by decide, nI_clamp (by decide)]
      exact ⟨vp_in_nI (by decide) (by decide), hq0⟩
    · rw [if_neg (by decide), if_pos rfl] at hq0
      rw [show (7 : Int32) + 7 - 6 = nI 8 by decide, nI_clamp (by decide)]
      exact ⟨vp_in_nI (by decide) (by decide), hq0⟩
  · next c1 =>
    have z6 : ¬ a = 6 := fun z => c1 (by rw [z]; decide)
    have z7 : ¬ a = 7 := fun z => c1 (by rw [z]; decide)
    rw [if_neg z6, if_neg z7] at hq0
    refine ⟨fun z8 => ?_, fun z8 => ?_⟩
    · rw [if_neg z8] at hq0
      refine ⟨fun z9 => ?_, fun z9 => ?_⟩
      · rw [if_neg z9] at hq0
        refine ⟨fun z10 => ?_, fun z10 => by rw [if_pos z10] at hq0; exact hq0⟩
        rw [if_neg z10] at hq0
        refine ⟨fun z11 => ?_, fun z11 => by rw [if_pos z11] at hq0; exact hq0⟩
        rw [if_neg z11] at hq0
        exact hq0
      · rw [if_pos z9] at hq0
        exact s6_gladness (by rw [hm]; exact hR) (by rw [hm]; exact hq0)
    · rw [if_pos z8] at hq0
      exact s6_bookings (by rw [hm]; exact hR) (by rw [hm]; exact hq0)
end TR
