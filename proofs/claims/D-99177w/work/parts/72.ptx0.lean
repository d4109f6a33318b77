/-! ===== PURE: texts: runs of bytes; strings; the reader of the twin ===== -/
def rn (p : Nat → Bool) (T : Nat → Nat) : Nat → Nat → Nat
  | 0, a => a
  | k + 1, a => if p (T a) = true then rn p T k (a + 1) else a
def pBl (b : Nat) : Bool := decide (b = 32)
def pLo (b : Nat) : Bool := decide (97 ≤ b ∧ b ≤ 122)
def pFi (b : Nat) : Bool := decide (48 ≤ b ∧ b ≤ 57)
def sk (T : Nat → Nat) (L a : Nat) : Nat := rn pBl T (L - a) a
def wd (T : Nat → Nat) (L a : Nat) : Nat := rn pLo T (L - a) a
def fg (T : Nat → Nat) (L a : Nat) : Nat := rn pFi T (L - a) a
theorem rn_ge {p : Nat → Bool} {T : Nat → Nat} : ∀ {k a : Nat}, a ≤ rn p T k a := by
  intro k
  induction k with
  | zero => intro a; exact Nat.le_refl _
  | succ k ih =>
    intro a
    show a ≤ if p (T a) = true then rn p T k (a + 1) else a
    split
    · exact Nat.le_trans (Nat.le_succ _) ih
    · exact Nat.le_refl _
theorem rn_le {p : Nat → Bool} {T : Nat → Nat} : ∀ {k a : Nat}, rn p T k a ≤ a + k := by
  intro k
  induction k with
  | zero => intro a; exact Nat.le_refl _
  | succ k ih =>
    intro a
    show (if p (T a) = true then rn p T k (a + 1) else a) ≤ _
    split
    · have := ih (a := a + 1); omega
    · omega
theorem rn_no {p : Nat → Bool} {T : Nat → Nat} {L a : Nat} (h : ¬ (a < L ∧ p (T a) = true)) : rn p T (L - a) a = a := by
  rcases hk : L - a with _ | k
  · rfl
  · show (if p (T a) = true then rn p T k (a + 1) else a) = a
    rw [if_neg (fun z => h ⟨by omega, z⟩)]
theorem rn_yes {p : Nat → Bool} {T : Nat → Nat} {L a : Nat} (h : a < L) (h2 : p (T a) = true) : rn p T (L - a) a = rn p T (L - (a + 1)) (a + 1) := by
  obtain ⟨k, hk⟩ : ∃ k, L - a = k + 1 := ⟨L - a - 1, by omega⟩
  rw [hk, show L - (a + 1) = k by omega]
  show (if p (T a) = true then rn p T k (a + 1) else a) = _
  rw [if_pos h2]
theorem rn_mem {p : Nat → Bool} {T : Nat → Nat} : ∀ {k a j : Nat}, a ≤ j → j < rn p T k a → p (T j) = true := by
  intro k
  induction k with
  | zero => intro a j h1 h2; exact absurd h2 (by show ¬ j < a; omega)
  | succ k ih =>
    intro a j h1 h2
    by_cases z : p (T a) = true
    · rw [show rn p T (k + 1) a = rn p T k (a + 1) from if_pos z] at h2
      rcases Nat.eq_or_lt_of_le h1 with rfl | h3
      · exact z
      · exact ih h3 h2
    · rw [show rn p T (k + 1) a = a from if_neg z] at h2; omega
theorem rn_end {p : Nat → Bool} {T : Nat → Nat} {L : Nat} : ∀ {k a : Nat}, L - a = k → rn p T k a < L → p (T (rn p T k a)) = false := by
  intro k
  induction k with
  | zero => intro a h1 h2; exact absurd h2 (by show ¬ a < L; omega)
  | succ k ih =>
    intro a h1 h2
    by_cases z : p (T a) = true
    · rw [show rn p T (k + 1) a = rn p T k (a + 1) from if_pos z] at h2 ⊢
      exact ih (by omega) h2
    · rw [show rn p T (k + 1) a = a from if_neg z] at h2 ⊢
      exact Bool.eq_false_iff.mpr z
theorem sk_ge {T : Nat → Nat} {L a : Nat} : a ≤ sk T L a := rn_ge
theorem wd_ge {T : Nat → Nat} {L a : Nat} : a ≤ wd T L a := rn_ge
theorem fg_ge {T : Nat → Nat} {L a : Nat} : a ≤ fg T L a := rn_ge
theorem sk_le {T : Nat → Nat} {L a : Nat} (h : a ≤ L) : sk T L a ≤ L := by have := rn_le (p := pBl) (T := T) (k := L - a) (a := a); unfold sk; omega
theorem wd_le {T : Nat → Nat} {L a : Nat} (h : a ≤ L) : wd T L a ≤ L := by have := rn_le (p := pLo) (T := T) (k := L - a) (a := a); unfold wd; omega
theorem fg_le {T : Nat → Nat} {L a : Nat} (h : a ≤ L) : fg T L a ≤ L := by have := rn_le (p := pFi) (T := T) (k := L - a) (a := a); unfold fg; omega
theorem sk_nb {T : Nat → Nat} {L a : Nat} (h : sk T L a < L) : ¬ T (sk T L a) = 32 := fun z => by
  have := rn_end (p := pBl) rfl h
  rw [show T (rn pBl T (L - a) a) = 32 from z] at this
  cases this
theorem sk_sk {T : Nat → Nat} {L a : Nat} : sk T L (sk T L a) = sk T L a := by
  show rn pBl T (L - sk T L a) (sk T L a) = sk T L a
  refine rn_no fun z => ?_
  have := rn_end (p := pBl) rfl z.1
  exact absurd (z.2.symm.trans this) (by decide)
/-- the word w stands next -/
def isW (w : List Nat) (T : Nat → Nat) (L a : Nat) : Bool := decide (wd T L (sk T L a) = sk T L a + w.length ∧ ∀ i, i < w.length → T (sk T L a + i) = w.getD i 0)
def afW (w : List Nat) (T : Nat → Nat) (L a : Nat) : Nat := if isW w T L a = true then sk T L a + w.length else sk T L a
def isS (c : Nat) (T : Nat → Nat) (L a : Nat) : Bool := decide (sk T L a < L ∧ T (sk T L a) = c)
theorem isS_iff {c : Nat} {T : Nat → Nat} {L a : Nat} : isS c T L a = true ↔ sk T L a < L ∧ T (sk T L a) = c := decide_eq_true_iff
/-- the words that are told, by number -/
def tw : Nat → List Nat
  | 0 => [104, 111, 115, 116]
  | 1 => [103, 117, 101, 115, 116]
  | 2 => [108, 105, 107, 101, 115]
  | 3 => [108, 111, 118, 101, 115]
  | 4 => [114, 97, 105, 110]
  | 5 => [119, 101, 101, 107]
  | 6 => [110, 101, 101, 100, 115]
  | 7 => [98, 97, 114, 115]
  | 8 => [112, 97, 116, 105, 101, 110, 99, 101]
  | 9 => [102, 114, 111, 109]
  | 10 => [116, 111]
  | 11 => [115, 116, 97, 121]
  | 12 => [109, 97, 114, 107, 115]
  | 13 => [105, 102]
  | 14 => [110, 111, 116]
  | 15 => [109, 97, 114, 107, 101, 100]
  | 16 => [101, 120, 112, 101, 99, 116, 101, 100]
  | 17 => [97, 110, 100]
  | 18 => [111, 114]
  | 19 => [103, 108, 97, 100]
  | 20 => [115, 111, 117, 114]
  | 21 => [97, 100, 109, 105, 116]
  | 22 => [113, 117, 97, 114, 116, 101, 114]
  | 23 => [108, 111, 110, 101, 108, 121]
  | 24 => [114, 97, 110, 107]
  | 25 => [108, 111, 118, 101, 100]
  | _ => []
/-- a string of bytes at id k -/
def StrG (g : List jC) (k : Nat) (bs : List Nat) : Prop := ∃ (q : Nat) (f : Nat → Int32) (fs : List Value), g[k]? = some (.inr (17, .ref q :: .int 0 :: fs)) ∧ g[q]? = some (.inl (1, bs.length, .inl f)) ∧ (∀ i, i < bs.length → f i = nI (bs.getD i 0)) ∧ bs.length < 1000000 ∧ ∀ i, i < bs.length → bs.getD i 0 < 128
def ConG (g : List jC) : Prop := ∀ (k : Nat) (c : jC), jcon[k]? = some c → g[k]? = some c
theorem str_0 {g : List jC} (h : ConG g) : StrG g 0 (tw 0) := ⟨1, fun j => (jtx 0).getD j 0, [], h 0 _ rfl, h 1 _ rfl, by decide +kernel, by decide +kernel, by decide +kernel⟩
theorem str_1 {g : List jC} (h : ConG g) : StrG g 2 (tw 1) := ⟨3, fun j => (jtx 1).getD j 0, [], h 2 _ rfl, h 3 _ rfl, by decide +kernel, by decide +kernel, by decide +kernel⟩
theorem str_2 {g : List jC} (h : ConG g) : StrG g 4 (tw 2) := ⟨5, fun j => (jtx 2).getD j 0, [], h 4 _ rfl, h 5 _ rfl, by decide +kernel, by decide +kernel, by decide +kernel⟩
theorem str_3 {g : List jC} (h : ConG g) : StrG g 6 (tw 3) := ⟨7, fun j => (jtx 3).getD j 0, [], h 6 _ rfl, h 7 _ rfl, by decide +kernel, by decide +kernel, by decide +kernel⟩
theorem str_4 {g : List jC} (h : ConG g) : StrG g 8 (tw 4) := ⟨9, fun j => (jtx 4).getD j 0, [], h 8 _ rfl, h 9 _ rfl, by decide +kernel, by decide +kernel, by decide +kernel⟩
theorem str_5 {g : List jC} (h : ConG g) : StrG g 10 (tw 5) := ⟨11, fun j => (jtx 5).getD j 0, [], h 10 _ rfl, h 11 _ rfl, by decide +kernel, by decide +kernel, by decide +kernel⟩
theorem str_6 {g : List jC} (h : ConG g) : StrG g 12 (tw 6) := ⟨13, fun j => (jtx 6).getD j 0, [], h 12 _ rfl, h 13 _ rfl, by decide +kernel, by decide +kernel, by decide +kernel⟩
theorem str_7 {g : List jC} (h : ConG g) : StrG g 14 (tw 7) := ⟨15, fun j => (jtx 7).getD j 0, [], h 14 _ rfl, h 15 _ rfl, by decide +kernel, by decide +kernel, by decide +kernel⟩
theorem str_8 {g : List jC} (h : ConG g) : StrG g 16 (tw 8) := ⟨17, fun j => (jtx 8).getD j 0, [], h 16 _ rfl, h 17 _ rfl, by decide +kernel, by decide +kernel, by decide +kernel⟩
theorem str_9 {g : List jC} (h : ConG g) : StrG g 18 (tw 9) := ⟨19, fun j => (jtx 9).getD j 0, [], h 18 _ rfl, h 19 _ rfl, by decide +kernel, by decide +kernel, by decide +kernel⟩
theorem str_10 {g : List jC} (h : ConG g) : StrG g 20 (tw 10) := ⟨21, fun j => (jtx 10).getD j 0, [], h 20 _ rfl, h 21 _ rfl, by decide +kernel, by decide +kernel, by decide +kernel⟩
theorem str_11 {g : List jC} (h : ConG g) : StrG g 22 (tw 11) := ⟨23, fun j => (jtx 11).getD j 0, [], h 22 _ rfl, h 23 _ rfl, by decide +kernel, by decide +kernel, by decide +kernel⟩
theorem str_12 {g : List jC} (h : ConG g) : StrG g 24 (tw 12) := ⟨25, fun j => (jtx 12).getD j 0, [], h 24 _ rfl, h 25 _ rfl, by decide +kernel, by decide +kernel, by decide +kernel⟩
theorem str_13 {g : List jC} (h : ConG g) : StrG g 26 (tw 13) := ⟨27, fun j => (jtx 13).getD j 0, [], h 26 _ rfl, h 27 _ rfl, by decide +kernel, by decide +kernel, by decide +kernel⟩
theorem str_14 {g : List jC} (h : ConG g) : StrG g 28 (tw 14) := ⟨29, fun j => (jtx 14).getD j 0, [], h 28 _ rfl, h 29 _ rfl, by decide +kernel, by decide +kernel, by decide +kernel⟩
theorem str_15 {g : List jC} (h : ConG g) : StrG g 30 (tw 15) := ⟨31, fun j => (jtx 15).getD j 0, [], h 30 _ rfl, h 31 _ rfl, by decide +kernel, by decide +kernel, by decide +kernel⟩
theorem str_16 {g : List jC} (h : ConG g) : StrG g 32 (tw 16) := ⟨33, fun j => (jtx 16).getD j 0, [], h 32 _ rfl, h 33 _ rfl, by decide +kernel, by decide +kernel, by decide +kernel⟩
theorem str_17 {g : List jC} (h : ConG g) : StrG g 34 (tw 17) := ⟨35, fun j => (jtx 17).getD j 0, [], h 34 _ rfl, h 35 _ rfl, by decide +kernel, by decide +kernel, by decide +kernel⟩
theorem str_18 {g : List jC} (h : ConG g) : StrG g 36 (tw 18) := ⟨37, fun j => (jtx 18).getD j 0, [], h 36 _ rfl, h 37 _ rfl, by decide +kernel, by decide +kernel, by decide +kernel⟩
theorem str_19 {g : List jC} (h : ConG g) : StrG g 38 (tw 19) := ⟨39, fun j => (jtx 19).getD j 0, [], h 38 _ rfl, h 39 _ rfl, by decide +kernel, by decide +kernel, by decide +kernel⟩
theorem str_20 {g : List jC} (h : ConG g) : StrG g 40 (tw 20) := ⟨41, fun j => (jtx 20).getD j 0, [], h 40 _ rfl, h 41 _ rfl, by decide +kernel, by decide +kernel, by decide +kernel⟩
theorem str_21 {g : List jC} (h : ConG g) : StrG g 42 (tw 21) := ⟨43, fun j => (jtx 21).getD j 0, [], h 42 _ rfl, h 43 _ rfl, by decide +kernel, by decide +kernel, by decide +kernel⟩
theorem str_22 {g : List jC} (h : ConG g) : StrG g 44 (tw 22) := ⟨45, fun j => (jtx 22).getD j 0, [], h 44 _ rfl, h 45 _ rfl, by decide +kernel, by decide +kernel, by decide +kernel⟩
theorem str_23 {g : List jC} (h : ConG g) : StrG g 46 (tw 23) := ⟨47, fun j => (jtx 23).getD j 0, [], h 46 _ rfl, h 47 _ rfl, by decide +kernel, by decide +kernel, by decide +kernel⟩
theorem str_24 {g : List jC} (h : ConG g) : StrG g 48 (tw 24) := ⟨49, fun j => (jtx 24).getD j 0, [], h 48 _ rfl, h 49 _ rfl, by decide +kernel, by decide +kernel, by decide +kernel⟩
theorem str_25 {g : List jC} (h : ConG g) : StrG g 50 (tw 25) := ⟨51, fun j => (jtx 25).getD j 0, [], h 50 _ rfl, h 51 _ rfl, by decide +kernel, by decide +kernel, by decide +kernel⟩
theorem pk_and255 {n : Nat} (h : n < 128) : (((nI n &&& (255 : Int32)).toUInt32 % 65536).toInt32) = nI n := by
  rw [pk_andN (by omega) 8 (by decide), Nat.mod_eq_of_lt (by omega), pk_char, pk_tn (by omega), Nat.mod_eq_of_lt (by omega)]
section TX0
variable {g : List jC} {k k2 : Nat} {as bs : List Nat}
theorem s5_isLatin1 {Q : Int32 → Prop} (h : StrG g k bs) (hq : Q 1) : wJ5_isLatin1 g k Q := by
  obtain ⟨q, f, fs, h1, -⟩ := h
  exact br_f (by decide) ⟨_, h1, 0, rfl, fun z => absurd rfl z, fun _ => hq⟩
theorem shr_0 {n : Nat} (h : n < 2 ^ 31) : nI n >>> ((0 : Int32) &&& 31) = nI n := by
  rw [pk_shrN h _ 0 (by decide)]
  exact congrArg nI (Nat.div_one n)
theorem s5_length {Q : Int32 → Prop} (h : StrG g k bs) (hq : Q (nI bs.length)) : wJ5_length g k Q := by
  obtain ⟨q, f, fs, h1, h2, h3, h4, h5⟩ := h
  refine ⟨_, h1, some q, rfl, q, rfl, nI bs.length, Or.inr (Or.inl ⟨_, f, h2, rfl⟩), _, h1, br_f (by decide) ⟨_, h1, 0, rfl, ⟨by decide, by decide⟩, ?_⟩⟩
  show Q (nI bs.length >>> ((0 : Int32) &&& 31))
  rw [shr_0 (by omega)]
  exact hq
theorem jyc_n {n : Nat} (h : n < 65536) : jyc (nI n) := ⟨(pk_charN h).1, trivial⟩
theorem s5_charAt {Q : Int32 → Prop} (h : StrG g k bs) {i : Nat} (hi : i < bs.length) (hq : Q (nI (bs.getD i 0))) : wJ5_charAt g k (nI i) Q := by
  have hL := h
  obtain ⟨q, f, fs, h1, h2, h3, h4, h5⟩ := h
  refine ⟨_, h1, s5_isLatin1 hL ⟨fun z => absurd z (by decide), fun _ => ⟨_, h1, some q, rfl, q, rfl, nI bs.length, Or.inr (Or.inl ⟨_, f, h2, rfl⟩), fun o ho => ?_⟩⟩⟩
  refine br_f (nI_pos (by omega)) (br_t (nI_lt hi (by omega)) ?_)
  have e : (((f (nI i).toNatClampNeg &&& (255 : Int32)).toUInt32 % 65536).toInt32) = nI (bs.getD i 0) := by
    rw [nI_clamp (by omega), h3 i hi]
    exact pk_and255 (h5 i hi)
  exact ⟨_, f, h2, vp_in_nI hi (by omega), by rw [e]; have := h5 i hi; exact ⟨jyc_n (by omega), jyc_n (by omega), hq⟩⟩
theorem s5_equals {Q : Int32 → Prop} (ha : StrG g k as) (hb : StrG g k2 bs) (hj : k = k2 ∨ jAp k k2) (hq : Q (b2i (as = bs))) : wJ5_equals g k k2 Q := by
  have g9 : ∀ i, ∀ (l : List Nat) (h : i < l.length), l[i] = l.getD i 0 := fun i l h => by rw [List.getD_eq_getElem?_getD, List.getElem?_eq_getElem h]; rfl
  obtain ⟨q, f, fs, h1, h2, h3, h4, h5⟩ := ha
  obtain ⟨q2, f2, fs2, i1, i2, i3, i4, i5⟩ := hb
  refine ⟨fun z => ?_, fun z => ?_⟩
  · subst z
    rw [h1] at i1
    cases i1
    rw [h2] at i2
    have e1 : as.length = bs.length := congrArg (fun z : Nat × vp_A => z.2.1) (Sum.inl.inj (Option.some.inj i2))
    have e2 : f = f2 := by
      have := congrArg (fun z : Nat × vp_A => z.2.2) (Sum.inl.inj (Option.some.inj i2))
      exact Sum.inl.inj this
    have e3 : as = bs := List.ext_getElem e1 (fun i z1 z2 => by
      rw [g9 i as z1, g9 i bs z2]
      have e4 := (h3 i z1).symm.trans ((congrFun e2 i).trans (i3 i z2))
      exact (nI_eq (by have := h5 i z1; omega) (by have := i5 i z2; omega)).mp e4)
    rw [b2i_t e3] at hq
    exact hq
  · refine ⟨hj.resolve_left z, _, i1, br_f (by decide) ⟨_, i1, br_f (by decide) ⟨_, h1, 0, rfl, _, i1, 0, rfl, fun z => absurd rfl z, fun _ => ?_⟩⟩⟩
    refine ⟨_, h1, some q, rfl, k2, rfl, _, i1, some q2, rfl, q, rfl, q2, rfl, ?_⟩
    refine ⟨nI as.length, Or.inr (Or.inl ⟨_, f, h2, rfl⟩), nI bs.length, Or.inr (Or.inl ⟨_, f2, i2, rfl⟩), fun zn => ?_, fun ze => ?_⟩
    · rw [b2i_f (fun e => zn (by rw [e]))] at hq
      exact br_t rfl hq
    · have e1 : as.length = bs.length := (nI_eq (by omega) (by omega)).mp ze
      suffices H : ∀ r i, i + r = as.length → (∀ j, j < i → as.getD j 0 = bs.getD j 0) → wJ10_equals_9 g q q2 (fun r44 => (r44 = 0 → Q 0) ∧ (¬ r44 = 0 → Q 1)) (r + 1) (nI i) from ⟨_, H as.length 0 (by omega) (fun j hj => absurd hj (by omega))⟩
      intro r
      induction r with
      | zero =>
        intro i hi hh
        refine ⟨nI as.length, Or.inr (Or.inl ⟨_, f, h2, rfl⟩), br_t (by rw [show i = as.length by omega]; exact Int32.le_refl _) (br_f (by decide) ?_)⟩
        rw [b2i_t (List.ext_getElem e1 (fun i z1 z2 => by rw [g9 i as z1, g9 i bs z2]; exact hh i (by omega)))] at hq
        exact hq
      | succ r ih =>
        intro i hi hh
        refine ⟨nI as.length, Or.inr (Or.inl ⟨_, f, h2, rfl⟩), br_f (nI_ge (by omega) (by omega)) ⟨_, f, h2, vp_in_nI (by omega) (by omega), _, f2, i2, vp_in_nI (by omega) (by omega), fun z => ?_, fun z => br_t rfl ?_⟩⟩
        · refine nm_r (nI_1 i) (ih (i + 1) (by omega) (fun j hj => ?_))
          rcases Nat.lt_succ_iff_lt_or_eq.mp hj with z1 | rfl
          · exact hh j z1
          · rw [nI_clamp (by omega), h3 j (by omega), i3 j (by omega)] at z
            exact (nI_eq (by have := h5 j (by omega); omega) (by have := i5 j (by omega); omega)).mp z
        · rw [b2i_f (fun e => z (by rw [nI_clamp (by omega), h3 i (by omega), i3 i (by omega), e]))] at hq
          exact hq
end TX0
/-- the twin's reader at a, its fault f, so deep d -/
def tx (V : Nat → Nat → Int32) (t a : Nat) (f : Int32) (d : Nat) : Nat → Nat → Int32 := vset (vset (vset V t 11 (nI a)) t 12 f) t 13 (nI d)
section TX1
variable {V : Nat → Nat → Int32} {t a d a2 d2 b j : Nat} {f f2 : Int32}
theorem vset_at {V : Nat → Nat → Int32} {k i j : Nat} {x : Int32} : vset V k i x k j = if j = i then x else V k j := by
  rw [vset_s]; rfl
theorem tx_j (j : Nat) : tx V t a f d t j = if j = 13 then nI d else if j = 12 then f else if j = 11 then nI a else V t j := by
  unfold tx
  rw [vset_at, vset_at, vset_at]
theorem tx_a : tx V t a f d t 11 = nI a := tx_j 11
theorem tx_f : tx V t a f d t 12 = f := tx_j 12
theorem tx_d : tx V t a f d t 13 = nI d := tx_j 13
theorem tx_o (h : j < 11 ∨ 13 < j) : tx V t a f d t j = V t j := by
  rw [tx_j, if_neg (by omega), if_neg (by omega), if_neg (by omega)]
theorem tx_b (h : b ≠ t) : tx V t a f d b = V b := by
  unfold tx
  rw [vset_n _ _ _ h, vset_n _ _ _ h, vset_n _ _ _ h]
theorem vext {V V2 : Nat → Nat → Int32} {k : Nat} (h1 : ∀ b, b ≠ k → V b = V2 b) (h2 : ∀ j, V k j = V2 k j) : V = V2 := by
  funext b
  by_cases z : b = k
  · rw [z]; funext j; exact h2 j
  · exact h1 b z
theorem txs_a : vset (tx V t a f d) t 11 (nI a2) = tx V t a2 f d := by
  refine vext (k := t) (fun b hb => by rw [vset_n _ _ _ hb, tx_b hb, tx_b hb]) (fun j => ?_)
  rw [vset_at, tx_j, tx_j]
  split
  · next z => rw [z]; rfl
  · rfl
theorem txs_f : vset (tx V t a f d) t 12 f2 = tx V t a f2 d := by
  refine vext (k := t) (fun b hb => by rw [vset_n _ _ _ hb, tx_b hb, tx_b hb]) (fun j => ?_)
  rw [vset_at, tx_j, tx_j]
  split
  · next z => rw [z]; rfl
  · rfl
theorem txs_d : vset (tx V t a f d) t 13 (nI d2) = tx V t a f d2 := by
  refine vext (k := t) (fun b hb => by rw [vset_n _ _ _ hb, tx_b hb, tx_b hb]) (fun j => ?_)
  rw [vset_at, tx_j, tx_j]
  split
  · rfl
  · rfl
/-- other places of the twin and the reader do not meet -/
theorem txs_o {i : Nat} {y : Int32} (h : i < 11 ∨ 13 < i) : vset (tx V t a f d) t i y = tx (vset V t i y) t a f d := by
  refine vext (k := t) (fun b hb => by rw [vset_n _ _ _ hb, tx_b hb, tx_b hb, vset_n _ _ _ hb]) (fun j => ?_)
  rw [vset_at, tx_j, tx_j, vset_at]
  by_cases z : j = i
  · rw [if_pos z, if_pos z, if_neg (by omega), if_neg (by omega), if_neg (by omega)]
  · rw [if_neg z, if_neg z]
theorem txs_b {k i : Nat} {y : Int32} (h : k ≠ t) : vset (tx V t a f d) k i y = tx (vset V k i y) t a f d := by
  refine vext (k := t) (fun b hb => ?_) (fun j => ?_)
  · rw [tx_b hb]
    by_cases z : b = k
    · subst z
      rw [vset_s, vset_s, tx_b hb]
    · rw [vset_n _ _ _ z, vset_n _ _ _ z, tx_b hb]
  · rw [vset_n _ _ _ h.symm, tx_j, tx_j, vset_n _ _ _ h.symm]
/-- a text of L bytes T, on the tape or in the row -/
def TxtT (V : Nat → Nat → Int32) (t : Nat) (T : Nat → Nat) (L : Nat) : Prop := L ≤ 400 ∧ V t 10 = nI L ∧ (∀ i, i < L → T i < 256) ∧ ((V t 9 = -1 ∧ ∀ i, i < L → V (t + 5) i = nI (T i)) ∨ (V t 9 = nI 619 ∧ ∀ i, i < L → V (t + 1) (619 + i) = nI (T i)))
end TX1
section TX2
variable {V : Nat → Nat → Int32} {t L a d : Nat} {f : Int32} {T : Nat → Nat} {Q : Int32 → (Nat → Nat → Int32) → Prop} {P : (Nat → Nat → Int32) → Prop}
theorem s6_letter {Q : Int32 → Prop} (hT : TxtT V t T L) {i : Nat} (hi : i < L) (hq : Q (nI (T i))) : wX6_letter t (tx V t a f d) (nI i) Q := by
  obtain ⟨h1, h2, h3, h4⟩ := hT
  unfold wX6_letter
  rw [tx_o (Or.inl (by decide)), tx_b (by omega), tx_b (by omega)]
  rcases h4 with ⟨h4, h5⟩ | ⟨h4, h5⟩
  · rw [h4]
    refine ⟨fun z => absurd rfl z, fun _ => ?_⟩
    exact ⟨vp_in_nI (by omega) (by decide), by rw [nI_clamp (by omega), h5 i hi]; exact hq⟩
  · rw [h4]
    refine ⟨fun _ => ?_, fun z => absurd z (by decide)⟩
    rw [nI_add]
    exact ⟨vp_in_nI (by omega) (by decide), by rw [nI_clamp (by omega), h5 i hi]; exact hq⟩
theorem s6_skip (hT : TxtT V t T L) (ha : a < 1000000) (hq : P (tx V t (sk T L a) f d)) : wX6_skip t (tx V t a f d) P := by
  have h10 : ∀ {a : Nat} {f : Int32} {d : Nat}, tx V t a f d t 10 = nI L := fun {a f d} => (tx_o (Or.inl (by decide))).trans hT.2.1
  have hL := hT.1
  suffices H : ∀ r a, L - a = r → a < 1000000 → P (tx V t (sk T L a) f d) → wX6_skip_0 t P (r + 1) (tx V t a f d) from ⟨_, H _ a rfl ha hq⟩
  intro r
  induction r with
  | zero =>
    intro a hr ha hq
    rw [wX6_skip_0, h10, tx_a]
    rw [show sk T L a = a from rn_no (by omega)] at hq
    exact br_t (nI_le (by omega) (by omega)) hq
  | succ r ih =>
    intro a hr ha hq
    rw [wX6_skip_0, h10, tx_a]
    refine br_f (nI_ge (by omega) (by omega)) (s6_letter hT (by omega) ⟨fun z => ?_, fun z => ?_⟩)
    · rw [show sk T L a = a from rn_no (fun q => z (by rw [of_decide_eq_true (p := T a = 32) q.2]; rfl))] at hq
      exact hq
    · have h32 : T a = 32 := (nI_eq (by have := hT.2.2.1 a (by omega); omega) (by decide)).mp z
      rw [show sk T L a = sk T L (a + 1) from rn_yes (by omega) (decide_eq_true h32)] at hq
      refine nm_r (nI_1 a) ?_
      rw [txs_a]
      exact ih (a + 1) (by omega) (by omega) hq
theorem s6_here (hT : TxtT V t T L) (ha : a < 1000000) (hq : Q (nI (sk T L a)) (tx V t (sk T L a) f d)) : wX6_here t (tx V t a f d) Q :=
  s6_skip hT ha (by rw [tx_a]; exact hq)
theorem s6_isSign {c : Nat} (hc : c < 256) (hT : TxtT V t T L) (ha : a < 1000000) (hq : if isS c T L a = true then Q 1 (tx V t (sk T L a) f d) else Q 0 (tx V t (sk T L a) f d)) : wX6_isSign t (tx V t a f d) (nI c) Q := by
  have h10 : ∀ {a : Nat} {f : Int32} {d : Nat}, tx V t a f d t 10 = nI L := fun {a f d} => (tx_o (Or.inl (by decide))).trans hT.2.1
  have hL := hT.1
  refine s6_skip hT ha ?_
  rw [h10, tx_a]
  by_cases z : sk T L a < L
  · refine br_f (nI_ge z (by omega)) (s6_letter hT z ⟨fun z2 => ?_, fun z2 => ?_⟩)
    · rw [if_neg (fun q => z2 (by rw [(isS_iff.mp q).2]))] at hq
      exact hq
    · rw [if_pos (isS_iff.mpr ⟨z, (nI_eq (by have := hT.2.2.1 _ z; omega) (by omega)).mp z2⟩)] at hq
      exact hq
  · rw [if_neg (fun q => z (isS_iff.mp q).1)] at hq
    exact br_t (nI_le (by omega) (by unfold sk at z ⊢; have := rn_le (p := pBl) (T := T) (k := L - a) (a := a); omega)) hq
theorem s6_fwrong {b : Nat} (hq : if f = -1 then P (tx V t a (nI b) d) else P (tx V t a f d)) : wX6_wrong t (tx V t a f d) (nI b) P := by
  unfold wX6_wrong
  rw [tx_f, txs_f]
  exact p_itn hq
end TX2
