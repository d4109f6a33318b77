/-! ===== PURE: saved in the component ===== -/
section SC
variable {sh : List jH} {V : Nat → Nat → Int32} {R : Nat → Nat → Option Nat} {x t : Nat} {m : Nat → Int32} {law : Option (List Ln)} {Q : Int32 → (Nat → Nat → Int32) → Prop} {X : String → (Nat → Nat → Int32) → Prop}
theorem bv_not_sshr (a b : BitVec 32) : (~~~a).sshiftRight' b = ~~~(a.sshiftRight' b) := by
  unfold BitVec.sshiftRight'
  apply BitVec.eq_of_getLsbD_eq
  intro i hi
  rw [BitVec.getLsbD_not, BitVec.getLsbD_sshiftRight, BitVec.getLsbD_sshiftRight]
  by_cases h : b.toNat + i < 32
  · have h2 : ¬ 32 ≤ i := by omega
    simp [h, hi, h2]
  · have h2 : ¬ 32 ≤ i := by omega
    simp [h, hi, h2, BitVec.msb_not]
theorem nI_inj {a b : Nat} (ha : a < 2 ^ 31) (hb : b < 2 ^ 31) (h : nI a = nI b) : a = b := by
  have := congrArg Int32.toNatClampNeg h
  rwa [nI_clamp ha, nI_clamp hb] at this
theorem isOf_not {a k : Int32} : isOf (a ^^^ (-1 : Int32)) k ↔ ¬ isOf a k := by
  unfold isOf
  have e : ∀ x : Int32, (x &&& 1 = 1) ↔ x.toBitVec.getLsbD 0 = true := by
    intro x
    rw [← Int32.toBitVec_inj]
    constructor
    · intro h
      have := congrArg (fun z => BitVec.getLsbD z 0) h
      simpa using this
    · intro h
      apply BitVec.eq_of_getLsbD_eq
      intro i hi
      by_cases h0 : i = 0
      · subst h0; simpa using h
      · have : BitVec.getLsbD (1 : Int32).toBitVec i = false := by
          show BitVec.getLsbD (1#32) i = false
          rw [BitVec.getLsbD_one]
          simp [h0]
        simp [this, h0]
  rw [e, e]
  simp only [Int32.toBitVec_shiftRight, Int32.toBitVec_xor]
  have h1 : (-1 : Int32).toBitVec = BitVec.allOnes 32 := by decide
  rw [h1, BitVec.xor_allOnes, bv_not_sshr, BitVec.getLsbD_not]
  simp
theorem bit_nI : ∀ (S : Fin 256) (t : Fin 8), (isOf (nI S.val) (nI t.val) ↔ S.val.testBit t.val = true) ∧ nI S.val ||| ((1 : Int32) <<< (nI t.val &&& 31)) = nI (S.val ||| 2 ^ t.val) ∧ (S.val.testBit t.val = true → nI S.val &&& (((1 : Int32) <<< (nI t.val &&& 31)) ^^^ (-1 : Int32)) = nI (S.val - 2 ^ t.val)) ∧ (S.val ||| 2 ^ t.val) < 256 := by decide +kernel
theorem bit_one : ∀ (j q : Fin 8), isOf ((1 : Int32) <<< (nI j.val &&& 31)) (nI q.val) ↔ j.val = q.val := by decide +kernel
theorem meet_bit {h q : Nat} (hq : q < 8) : isOf (f_meetIn m law h) (nI q) ↔ f_would m law h q = true := by
  have key : ∀ (k i : Nat) (a : Int32), i + k ≤ 8 → (isOf (fo (fun q a => if f_would m law h q = true then a ||| ((1 : Int32) <<< (nI q &&& 31)) else a) k i a) (nI q) ↔ isOf a (nI q) ∨ (i ≤ q ∧ q < i + k ∧ f_would m law h q = true)) := by
    intro k
    induction k with
    | zero => intro i a hi; exact ⟨Or.inl, fun z => z.elim id (fun z2 => absurd z2 (by omega))⟩
    | succ k ih =>
      intro i a hi
      show isOf (fo _ k (i + 1) (if f_would m law h i = true then a ||| ((1 : Int32) <<< (nI i &&& 31)) else a)) (nI q) ↔ _
      rw [ih _ _ (by omega)]
      by_cases w : f_would m law h i = true
      · rw [if_pos w, isOf_or, bit_one ⟨i, by omega⟩ ⟨q, hq⟩]
        constructor
        · rintro ((z | z) | z)
          · exact Or.inl z
          · exact Or.inr ⟨by simp only [] at z; omega, by simp only [] at z; omega, by simp only [] at z; rw [← z]; exact w⟩
          · exact Or.inr ⟨by omega, by omega, z.2.2⟩
        · rintro (z | z)
          · exact Or.inl (Or.inl z)
          · by_cases e : i = q
            · exact Or.inl (Or.inr e)
            · exact Or.inr ⟨by omega, by omega, z.2.2⟩
      · rw [if_neg w]
        constructor
        · rintro (z | z)
          · exact Or.inl z
          · exact Or.inr ⟨by omega, by omega, z.2.2⟩
        · rintro (z | z)
          · exact Or.inl z
          · by_cases e : i = q
            · rw [← e] at z; exact absurd z.2.2 w
            · exact Or.inr ⟨by omega, by omega, z.2.2⟩
  have := key 8 0 0 (by omega)
  unfold f_meetIn
  rw [this]
  exact ⟨fun z => z.elim (fun z2 => absurd z2 (isOf_0 ⟨q, hq⟩)) (fun z2 => z2.2.2), fun z => Or.inr ⟨by omega, by omega, z⟩⟩
def savAct (m : Nat → Int32) (law : Option (List Ln)) (h : Nat) (wet : Int32) (q : Nat) : Bool := decide (isOf wet (nI q) ∧ f_would m law h q = true)
def savFit (m : Nat → Int32) (h : Nat) (wet : Int32) (q t : Nat) : Bool := decide (isOf (f_free m h) (nI t) ∧ isOf (m (44 + 3 * gOf m h q)) (nI t) ∧ ¬ isOf (f_busy m (m (195 + 8 * h + q))) (nI t) ∧ ¬ isOf wet (nI t))
def f_saved (m : Nat → Int32) (law : Option (List Ln)) (h : Nat) (wet : Int32) : Nat := svF (savAct m law h wet) (savFit m h wet) 8 0 0
def o_saved (m : Nat → Int32) (law : Option (List Ln)) (h wet : Int32) : Ot := if isHostP m h then .inl (nI (f_saved m law h.toNatClampNeg wet)) else .inr (xIo, 1)
theorem s1_savedFrom {h : Nat} {wet : Int32} (hX : jReg shX1 sh x) (hW : WRel V (x + 1) m) (hR : RowOk m) (hL : LawSh sh (R (x + 1) 20) law) (hh : h < nH m) : ∀ (k q S : Nat) (V0 : Nat → Nat → Int32) (Q : Int32 → (Nat → Nat → Int32) → Prop), q + k = 8 → S < 256 → CF x V V0 → (∀ V', CF x V V' → Q (nI (svF (savAct m law h wet) (savFit m h wet) k q S)) V') → wX1_savedFrom x sh R (k + 1) V0 (nI h) (nI q) wet (nI S) Q := by
  have h8 := hR.H8; have g8 := hR.G8
  have dd : x + 1 + 36 ≤ x + 111 ∨ x + 112 ≤ x + 1 := by omega
  intro k
  induction k with
  | zero =>
    intro q S V0 Q hk hS f0 hq
    obtain rfl : q = 8 := hk
    rw [wX1_savedFrom]
    exact ⟨fun z => absurd rfl z, fun _ => hq V0 f0⟩
  | succ k ih =>
    intro q S V0 Q hk hS f0 hq
    rw [wX1_savedFrom]
    unfold wX1_savedFrom_B
    refine ⟨fun _ => ?_, fun z => absurd z (by show ¬ nI q = nI 8; exact fun z => by have := nI_inj (by omega) (by omega) z; omega)⟩
    rw [nI_1]
    refine ih (q + 1) S V0 _ (by omega) hS f0 (fun V1 f1 => ?_)
    refine s1_meetsIn hX (f1.W hW dd h8 g8) hR hL hh (fun V2 f2 => ?_)
    have f2 := f1.trans f2
    have W2 := f2.W hW dd h8 g8
    have q8 : q < 8 := by omega
    rw [svF] at hq
    refine s1_has (p_bn ?_)
    have hact : isOf (wet &&& f_meetIn m law h) (nI q) ↔ savAct m law h wet q = true := by
      unfold savAct
      rw [isOf_and, meet_bit q8, decide_eq_true_iff]
    split
    · next z =>
      have za := hact.1 z
      rw [if_pos za] at hq
      have wd := (of_decide_eq_true za).2
      obtain ⟨gb, ge⟩ := would_g hR (by omega) q8 wd
      have bo : V2 (x + 1 + 26 + 1 + h) q = m (195 + 8 * h + q) := W2.book hh q8
      refine ⟨in8 (by omega), in8 q8, ?_⟩
      rw [cl8 (show h < 8 by omega), cl8 q8, bo]
      refine nm_e (s2_free W2 h8 hh ⟨by rw [ge]; exact in8 (by omega), s2_busy W2 hR ?_⟩)
      have ho : V2 (x + 1 + 6) (m (195 + 8 * h + q)).toNatClampNeg = m (44 + 3 * gOf m h q) := (W2.2.2.1 _ gb).2.1
      rw [ho]
      refine nm_e ?_
      have hfit : ∀ t, t < 8 → (isOf ((((f_free m h &&& m (44 + 3 * gOf m h q)) &&& (f_busy m (m (195 + 8 * h + q)) ^^^ (-1 : Int32))) &&& (wet ^^^ (-1 : Int32))) &&& (nI S ^^^ (-1 : Int32))) (nI t) ↔ (savFit m h wet q t && !S.testBit t) = true) := fun t ht => by
        rw [isOf_and, isOf_and, isOf_and, isOf_and, isOf_not, isOf_not, isOf_not, (bit_nI ⟨S, hS⟩ ⟨t, ht⟩).1]
        unfold savFit
        rw [Bool.and_eq_true, decide_eq_true_iff]
        simp only [Bool.not_eq_true']
        cases S.testBit t <;> simp [and_assoc]
      generalize (((f_free m h &&& m (44 + 3 * gOf m h q)) &&& (f_busy m (m (195 + 8 * h + q)) ^^^ (-1 : Int32))) &&& (wet ^^^ (-1 : Int32))) &&& (nI S ^^^ (-1 : Int32)) = msk at *
      obtain ⟨tot, ht⟩ : ∃ tot, tot = fo (fun t b => if (savFit m h wet q t && !S.testBit t) = true then max b (1 + svF (savAct m law h wet) (savFit m h wet) k (q + 1) (S ||| 2 ^ t)) else b) 8 0 (svF (savAct m law h wet) (savFit m h wet) k (q + 1) S) := ⟨_, rfl⟩
      rw [← ht] at hq
      refine ⟨_, vloop (fun n (b : (Nat → Nat → Int32) × Nat) i => wX1_savedFrom_96 x sh R (wX1_savedFrom x sh R (k + 1)) (nI h) (nI q) wet (nI S) Q n b.1 (nI b.2) msk (nI i)) (fun i b => CF x V b.1 ∧ b.2 ≤ 8 ∧ fo (fun t b => if (savFit m h wet q t && !S.testBit t) = true then max b (1 + svF (savAct m law h wet) (savFit m h wet) k (q + 1) (S ||| 2 ^ t)) else b) (8 - i) i b.2 = tot) 8 ?_ ?_ 8 0 (V2, _) (Nat.zero_add _) ⟨f2, ?_, ht.symm⟩⟩
      · intro n b hI
        obtain ⟨i1, i2, i3⟩ := hI
        rw [fo_end] at i3
        show wX1_savedFrom_96 x sh R (wX1_savedFrom x sh R (k + 1)) (nI h) (nI q) wet (nI S) Q (n + 1) b.1 (nI b.2) msk (nI 8)
        rw [wX1_savedFrom_96, i3]
        exact br_t (by decide) (hq b.1 i1)
      · intro n b i hi hI hk2
        obtain ⟨b, r⟩ := b
        obtain ⟨i1, i2, i3⟩ := hI
        have i1 : CF x V b := i1
        have i2 : r ≤ 8 := i2
        rw [fo_pop hi] at i3
        show wX1_savedFrom_96 x sh R (wX1_savedFrom x sh R (k + 1)) (nI h) (nI q) wet (nI S) Q (n + 1) b (nI r) msk (nI i)
        rw [wX1_savedFrom_96]
        refine br_f (nI_ge hi (by decide)) (s1_has (p_bz ?_))
        have b8 := bit_nI ⟨S, hS⟩ ⟨i, hi⟩
        simp only [] at b8
        split
        · next z2 =>
          rw [if_pos ((hfit i hi).1 z2)] at i3
          rw [nI_1 q, b8.2.1]
          refine ih (q + 1) (S ||| 2 ^ i) b _ (by omega) b8.2.2.2 i1 (fun V3 f3 => ?_)
          have hle := svF_le (act := savAct m law h wet) (fit := savFit m h wet) k (q + 1) (S ||| 2 ^ i)
          rw [show (1 : Int32) = nI 1 from rfl, nI_add]
          refine nm_e (nm_r (nI_add i 1) ?_)
          have em : (if nI r < nI (1 + svF (savAct m law h wet) (savFit m h wet) k (q + 1) (S ||| 2 ^ i)) then nI (1 + svF (savAct m law h wet) (savFit m h wet) k (q + 1) (S ||| 2 ^ i)) else nI r) = nI (max r (1 + svF (savAct m law h wet) (savFit m h wet) k (q + 1) (S ||| 2 ^ i))) := by
            split
            · next z3 =>
              have z3 := (nI_ltI (by omega) (by omega)).1 z3
              rw [Nat.max_eq_right (by omega)]
            · next z3 =>
              have z3 : ¬ r < 1 + svF (savAct m law h wet) (savFit m h wet) k (q + 1) (S ||| 2 ^ i) := fun z4 => z3 ((nI_ltI (by omega) (by omega)).2 z4)
              rw [Nat.max_eq_left (by omega)]
          rw [em]
          exact hk2 (V3, _) ⟨f3, by show max r _ ≤ 8; omega, i3⟩
        · next z2 =>
          rw [if_neg (fun z3 => z2 ((hfit i hi).2 z3))] at i3
          exact nm_r (nI_1 i) (hk2 (b, r) ⟨i1, i2, i3⟩)
      · have := svF_le (act := savAct m law h wet) (fit := savFit m h wet) k (q + 1) S
        show _ ≤ 8
        omega
    · next z =>
      rw [if_neg (fun z2 => z (hact.2 z2))] at hq
      exact hq V2 f2
theorem s1_saved {h wet : Int32} (hX : jReg shX1 sh x) (hW : WRel V (x + 1) m) (hR : RowOk m) (hL : LawSh sh (R (x + 1) 20) law) (hq : ∀ V', CF x V V' → oC (o_saved m law h wet) (fun r => Q r V') (fun e => X e V')) : wX1_saved x sh R V h wet Q X := by
  unfold o_saved at hq
  refine e1_hostAt hW ?_
  by_cases c : isHostP m h
  · rw [if_pos c]
    obtain ⟨k, hk, hk8, rfl⟩ := hR.host c
    rw [if_pos c, cl8 hk8] at hq
    exact ⟨9, by decide, s1_savedFrom hX hW hR hL hk 8 0 0 V _ rfl (by decide) CF.refl hq⟩
  · rw [if_neg c]
    have hq := hq V CF.refl
    rw [if_neg c] at hq
    exact hq
end SC
