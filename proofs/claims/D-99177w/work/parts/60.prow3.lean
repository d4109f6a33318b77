/-! ===== PURE: bits of a word, one by one ===== -/
theorem and1_bit (x : Int32) : (x &&& 1 = 1) ↔ x.toBitVec.getLsbD 0 = true := by
  rw [← Int32.toBitVec_inj]
  constructor
  · intro h
    have := congrArg (fun z => BitVec.getLsbD z 0) h
    simpa using this
  · intro h
    apply BitVec.eq_of_getLsbD_eq
    intro i hi
    by_cases h0 : i = 0
    · subst h0; simpa using h
    · have : BitVec.getLsbD (1 : Int32).toBitVec i = false := by
        show BitVec.getLsbD (1#32) i = false
        rw [BitVec.getLsbD_one]
        simp [h0]
      simp [this, h0]
theorem of_bit (x : Int32) {g : Nat} (hg : g < 8) : isOf x (nI g) ↔ x.toBitVec.getLsbD g = true := by
  have e : ∀ g : Fin 8, ((nI g.val &&& 31).toBitVec.smod 32).toNat = g.val := by decide
  have e := e ⟨g, hg⟩
  unfold isOf
  rw [and1_bit, Int32.toBitVec_shiftRight]
  show (BitVec.sshiftRight x.toBitVec ((nI g &&& 31).toBitVec.smod 32).toNat).getLsbD 0 = true ↔ _
  rw [e, BitVec.getLsbD_sshiftRight]
  simp [show g < 32 by omega]
theorem nI_bit {S i : Nat} (hi : i < 32) : (nI S).toBitVec.getLsbD i = S.testBit i := by
  show (BitVec.ofNat 32 S).getLsbD i = _
  rw [BitVec.getLsbD_ofNat]
  simp [hi]
theorem inS_bit {S g : Nat} : inS S g ↔ S.testBit g = true := by
  rw [Nat.testBit_eq_decide_div_mod_eq, decide_eq_true_eq]
theorem sub_bit {a : Int32} {S : Nat} (hS : S < 256) : subOf a S ↔ ∀ g, g < 8 → inS S g → isOf a (nI g) := by
  have hb : ∀ i, i < 32 → (nI S &&& (a ^^^ (-1 : Int32))).toBitVec.getLsbD i = (S.testBit i && !(a.toBitVec.getLsbD i)) := by
    intro i hi
    rw [Int32.toBitVec_and, Int32.toBitVec_xor, BitVec.getLsbD_and, BitVec.getLsbD_xor, nI_bit hi]
    have : (-1 : Int32).toBitVec.getLsbD i = true := by
      show (BitVec.allOnes 32).getLsbD i = true
      rw [BitVec.getLsbD_allOnes]
      simp [hi]
    rw [this, Bool.xor_true]
  constructor
  · intro h g hg hs
    have := hb g (by omega)
    rw [h, inS_bit.mp hs] at this
    rw [of_bit a hg]
    cases q : a.toBitVec.getLsbD g with
    | true => rfl
    | false =>
      rw [q] at this
      simp at this
  · intro h
    rw [subOf, ← Int32.toBitVec_inj]
    apply BitVec.eq_of_getLsbD_eq
    intro i hi
    rw [hb i hi]
    by_cases c : i < 8
    · cases q : S.testBit i with
      | false => simp
      | true =>
        have := (of_bit a c).mp (h i c (inS_bit.mpr q))
        rw [this]
        simp
    · have : S.testBit i = false := Nat.testBit_lt_two_pow (Nat.lt_of_lt_of_le hS (show 2 ^ 8 ≤ 2 ^ i from Nat.pow_le_pow_right (by decide) (by omega)))
      rw [this]
      simp
theorem inS_or : ∀ (S : Fin 256) (g k : Fin 8), inS (S.val ||| 2 ^ g.val) k.val ↔ inS S.val k.val ∨ k = g := by decide +kernel
theorem set_back : ∀ (S : Fin 256) (g : Fin 8), (inS S.val g.val → (S.val - 2 ^ g.val) ||| 2 ^ g.val = S.val ∧ ¬ inS (S.val - 2 ^ g.val) g.val) ∧ (¬ inS S.val g.val → (S.val ||| 2 ^ g.val) - 2 ^ g.val = S.val) := by decide +kernel
theorem sub_or {a : Int32} {S g : Nat} (hS : S < 256) (hg : g < 8) (h : subOf a S) (ha : isOf a (nI g)) : subOf a (S ||| 2 ^ g) := by
  rw [sub_bit (set_or ⟨S, hS⟩ ⟨g, hg⟩).2.1]
  intro k hk hs
  rcases (inS_or ⟨S, hS⟩ ⟨g, hg⟩ ⟨k, hk⟩).mp hs with h1 | h1
  · exact (sub_bit hS).mp h k hk h1
  · rw [show k = g from congrArg Fin.val h1]; exact ha
theorem sub_less {a : Int32} {S g : Nat} (hS : S < 256) (hg : g < 8) (h : subOf a S) (hs : inS S g) : isOf a (nI g) ∧ subOf a (S - 2 ^ g) := by
  have hl := (set_less ⟨S, hS⟩ ⟨g, hg⟩ hs).2
  simp only at hl
  have hb := ((set_back ⟨S, hS⟩ ⟨g, hg⟩).1 hs).1
  simp only at hb
  refine ⟨(sub_bit hS).mp h g hg hs, (sub_bit (by omega)).mpr (fun k hk h1 => ?_)⟩
  refine (sub_bit hS).mp h k hk ?_
  have := (inS_or ⟨S - 2 ^ g, by omega⟩ ⟨g, hg⟩ ⟨k, hk⟩).mpr (Or.inl h1)
  simp only at this
  rw [hb] at this
  exact this
