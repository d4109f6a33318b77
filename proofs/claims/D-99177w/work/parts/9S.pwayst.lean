/-! ===== PURE: ways told by numbers of a row: the sum over all numbers ===== -/
theorem nI_divN {a b : Nat} (ha : a < 2 ^ 31) (hb : b < 2 ^ 31) : nI a / nI b = nI (a / b) := by
  apply Int32.toInt_inj.1
  have h2 : a / b < 2 ^ 31 := Nat.lt_of_le_of_lt (Nat.div_le_self a b) ha
  rw [Int32.toInt_div, nI_toInt ha, nI_toInt hb, nI_toInt h2]
  have h : (a : Int).tdiv b = ((a / b : Nat) : Int) := (Int.ofNat_tdiv a b).symm
  rw [h]
  generalize a / b = c at *
  exact Int.bmod_eq_of_le (by omega) (by omega)
theorem nI_mulN (a b : Nat) : nI a * nI b = nI (a * b) := (Int32.ofNat_mul a b).symm
theorem nI_subN {a b : Nat} (h : b ≤ a) : nI a - nI b = nI (a - b) := (Int32.ofNat_sub a b h).symm
theorem nI_modN {a b : Nat} (ha : a < 2 ^ 31) (hb : b < 2 ^ 31) : nI a - nI a / nI b * nI b = nI (a % b) := by
  rw [nI_divN ha hb, nI_mulN, nI_subN (Nat.div_mul_le_self a b)]
  congr 1
  have := Nat.div_add_mod a b
  rw [Nat.mul_comm] at this
  omega
def sumN (n : Nat) (f : Nat → Nat) : Nat := fo (fun c a => a + f c) n 0 0
def fact : Nat → Nat
  | 0 => 1
  | n + 1 => (n + 1) * fact n
theorem sumI {f : Nat → Nat} : ∀ (k i a : Nat), fo (fun c a => a + f c) k i a = a + fo (fun c a => a + f c) k i 0 := by
  intro k
  induction k with
  | zero => intro i a; rfl
  | succ k ih =>
    intro i a
    show fo (fun c a => a + f c) k (i + 1) (a + f i) = a + fo (fun c a => a + f c) k (i + 1) (0 + f i)
    rw [ih (i + 1) (a + f i), ih (i + 1) (0 + f i)]
    omega
theorem fo_last {α : Type} {f : Nat → α → α} : ∀ (k i : Nat) (a : α), fo f (k + 1) i a = f (i + k) (fo f k i a) := by
  intro k
  induction k with
  | zero => intro i a; rfl
  | succ k ih =>
    intro i a
    show fo f (k + 1) (i + 1) (f i a) = f (i + (k + 1)) (fo f k (i + 1) (f i a))
    rw [ih, show i + 1 + k = i + (k + 1) by omega]
theorem sum_s {n : Nat} {f : Nat → Nat} : sumN (n + 1) f = sumN n f + f n := by
  unfold sumN
  rw [fo_last, Nat.zero_add]
theorem sum_0 {f : Nat → Nat} : sumN 0 f = 0 := rfl
theorem sum_c {n : Nat} {f g : Nat → Nat} (h : ∀ i, i < n → f i = g i) : sumN n f = sumN n g := by
  unfold sumN
  exact fo_congr _ _ _ (fun j b _ hj => by rw [h j (by omega)])
theorem sum_add {n : Nat} {f g : Nat → Nat} : sumN n (fun i => f i + g i) = sumN n f + sumN n g := by
  induction n with
  | zero => rfl
  | succ n ih => rw [sum_s, sum_s, sum_s, ih]; omega
theorem sum_app {n k : Nat} {f : Nat → Nat} : sumN (n + k) f = sumN n f + sumN k (fun i => f (n + i)) := by
  induction k with
  | zero => rfl
  | succ k ih => rw [← Nat.add_assoc, sum_s, sum_s, ih]; omega
theorem sum_dm {w : Nat} (hw : 0 < w) (F : Nat → Nat → Nat) : ∀ R, sumN (w * R) (fun c => F (c % w) (c / w)) = sumN w (fun r => sumN R (fun q => F r q)) := by
  intro R
  induction R with
  | zero =>
    rw [Nat.mul_zero, sum_0]
    have : ∀ n, sumN n (fun _ => 0) = 0 := fun n => by
      induction n with
      | zero => rfl
      | succ n ih => rw [sum_s, ih]
    exact (this w).symm
  | succ R ih =>
    rw [Nat.mul_succ, sum_app, ih]
    have e : sumN w (fun i => F ((w * R + i) % w) ((w * R + i) / w)) = sumN w (fun r => F r R) := sum_c (fun i hi => by
      rw [Nat.mul_add_mod, Nat.mod_eq_of_lt hi, Nat.mul_add_div hw, Nat.div_eq_of_lt hi, Nat.add_zero])
    rw [e, ← sum_add]
    exact sum_c (fun i _ => sum_s.symm)
def bitsL (S : Nat) : List Nat := (List.range 8).filter (fun i => S.testBit i)
def cntB (S i : Nat) : Nat := pc (S % 2 ^ i)
theorem cntB_f : ∀ (S : Fin 256) (i : Fin 8), cntB S.val (i.val + 1) = cntB S.val i.val + (if S.val.testBit i.val = true then 1 else 0) ∧ (S.val.testBit i.val = true → (bitsL S.val)[cntB S.val i.val]? = some i.val) := by decide +kernel
theorem cntB_e : ∀ (S : Fin 256), cntB S.val 8 = pc S.val ∧ cntB S.val 0 = 0 ∧ (bitsL S.val).length = pc S.val := by decide +kernel
def kthN (S r : Nat) : Nat := (bitsL S)[r]?.getD 0
theorem list_sum (G : Nat → Nat) : ∀ (L : List Nat), sumN L.length (fun r => G (L[r]?.getD 0)) = (L.map G).sum := by
  have h : ∀ (L : List Nat) (n : Nat), sumN L.length (fun r => G (L[r]?.getD 0)) = (L.map G).sum := by
    intro L
    induction L with
    | nil => intro _; rfl
    | cons a L ih =>
      intro n
      rw [show (a :: L).length = 1 + L.length by simp [Nat.add_comm], sum_app]
      have e1 : sumN 1 (fun r => G ((a :: L)[r]?.getD 0)) = G a := by
        rw [sum_s, sum_0]; simp
      have e2 : sumN L.length (fun i => G ((a :: L)[1 + i]?.getD 0)) = sumN L.length (fun r => G (L[r]?.getD 0)) := sum_c (fun i _ => by
        rw [Nat.add_comm 1 i]; simp)
      rw [e1, e2, ih n]
      simp
  exact fun L => h L 0
theorem pick_sum {S : Nat} (hS : S < 256) (G : Nat → Nat) : sumN (pc S) (fun r => G (kthN S r)) = sumN 8 (fun g => if S.testBit g = true then G g else 0) := by
  have h := list_sum G (bitsL S)
  rw [(cntB_e ⟨S, hS⟩).2.2] at h
  refine h.trans ?_
  unfold bitsL
  have h2 : ∀ n, ((List.filter (fun i => S.testBit i) (List.range n)).map G).sum = sumN n (fun g => if S.testBit g = true then G g else 0) := by
    intro n
    induction n with
    | zero => rfl
    | succ n ih =>
      rw [List.range_succ, List.filter_append, List.map_append, List.sum_append, ih, sum_s]
      congr 1
      by_cases z : S.testBit n = true
      · rw [if_pos z]; simp [z]
      · rw [if_neg z]; simp [z]
  exact h2 8
theorem kth_in {S r : Nat} (hS : S < 256) (hr : r < pc S) : S.testBit (kthN S r) = true ∧ kthN S r < 8 := by
  have hl := (cntB_e ⟨S, hS⟩).2.2
  simp only [] at hl
  have hr2 : r < (bitsL S).length := by omega
  have : kthN S r ∈ bitsL S := by
    unfold kthN
    rw [List.getElem?_eq_getElem hr2]
    exact List.getElem_mem hr2
  unfold bitsL at this
  rw [List.mem_filter, List.mem_range] at this
  exact ⟨this.2, this.1⟩
theorem s6_kth {S r : Nat} {Q : Int32 → Prop} (hS : S < 256) (hr : r < pc S) (hq : Q (nI (kthN S r))) : wX6_kth (nI S) (nI r) Q := by
  have p8 := pc_256 ⟨S, hS⟩
  simp only [] at p8
  refine ⟨_, vloop (fun n (j : Nat) i => wX6_kth_4 (nI S) (nI r) Q n (nI j) (nI i)) (fun i j => j = cntB S i ∧ j ≤ r) 8 ?_ ?_ 8 0 (0 : Nat) (Nat.zero_add _) ⟨(cntB_e ⟨S, hS⟩).2.1.symm, Nat.zero_le _⟩⟩
  · intro n j hI
    obtain ⟨i1, i2⟩ := hI
    rw [(cntB_e ⟨S, hS⟩).1] at i1
    simp only [] at i1
    omega
  · intro n j i hi hI hk
    obtain ⟨i1, i2⟩ := hI
    obtain ⟨c1, c2⟩ := cntB_f ⟨S, hS⟩ ⟨i, hi⟩
    simp only [] at c1 c2
    rw [wX6_kth_4]
    refine br_f (nI_ge hi (by decide)) (s6_isOf (p_bn ?_))
    split
    · next z =>
      have zt := (bit_nI ⟨S, hS⟩ ⟨i, hi⟩).1.1 z
      simp only [] at zt
      refine ⟨fun y => nm_r (nI_1 j) (nm_r (nI_1 i) (hk (j + 1) ⟨by rw [c1, if_pos zt, i1], ?_⟩)), fun y => ?_⟩
      · have : j ≠ r := fun q => y (by rw [q])
        omega
      · have y := nI_inj (by omega) (by omega) y
        have : kthN S r = i := by
          unfold kthN
          rw [← y, i1, c2 zt]
          rfl
        rw [this] at hq
        exact hq
    · next z =>
      have zt : ¬ S.testBit i = true := fun q => z ((bit_nI ⟨S, hS⟩ ⟨i, hi⟩).1.2 q)
      exact nm_r (nI_1 i) (hk j ⟨by rw [c1, if_neg zt, i1]; rfl, i2⟩)
/-- whether a number of a row tells a way: 1 or 0 -/
def lf (m : Nat → Int32) : Nat → Nat → Nat → Nat → Nat → (Nat → Int32) → (Nat → Int32) → Nat
  | 0, _, _, _, _, u, v => if f_rathers m u v = 0 then 1 else 0
  | k + 1, h, S, c, w, u, v => if hsP m h = true then (if mayP m h (kthN S (c % w)) = true then lf m k (h + 1) (S - 2 ^ kthN S (c % w)) (c / w) (w - 1) (upd u h (nI (kthN S (c % w)))) (upd v (kthN S (c % w)) (nI h)) else 0) else lf m k (h + 1) S c w u v
def nbH (m : Nat → Int32) : Nat → Nat
  | 0 => 0
  | h + 1 => nbH m h + (if hsP m h = true then 1 else 0)
/-- S: the guests that are left -/
def Left (m : Nat → Int32) (S : Nat) (v : Nat → Int32) : Prop := S < 256 ∧ ∀ g, g < 8 → (S.testBit g = true ↔ g < nG m ∧ inP m 0 g = true ∧ v g = -1)
section LS
variable {m : Nat → Int32}
theorem bit_sub : ∀ (S : Fin 256) (g k : Fin 8), S.val.testBit g.val = true → ((S.val - 2 ^ g.val).testBit k.val = true ↔ S.val.testBit k.val = true ∧ k ≠ g) ∧ S.val - 2 ^ g.val < 256 ∧ pc (S.val - 2 ^ g.val) + 1 = pc S.val := by decide +kernel
theorem Left.sub {S g h : Nat} {v : Nat → Int32} (hL : Left m S v) (hg8 : g < 8) (hg : S.testBit g = true) (hh : h < 2 ^ 31) : Left m (S - 2 ^ g) (upd v g (nI h)) ∧ pc (S - 2 ^ g) + 1 = pc S := by
  obtain ⟨h1, h2⟩ := hL
  have b0 := bit_sub ⟨S, h1⟩ ⟨g, hg8⟩ ⟨g, hg8⟩ hg
  simp only [] at b0
  refine ⟨⟨b0.2.1, fun k hk => ?_⟩, b0.2.2⟩
  have b := (bit_sub ⟨S, h1⟩ ⟨g, hg8⟩ ⟨k, hk⟩ hg).1
  simp only [] at b
  rw [b, h2 k hk]
  by_cases z : k = g
  · subst z
    rw [upd_s]
    exact ⟨fun q => absurd rfl q.2, fun q => absurd q.2.2 (nI_nm1 hh)⟩
  · rw [upd_n z]
    exact ⟨fun q => q.1, fun q => ⟨q, fun e => z (Fin.mk.inj e)⟩⟩
theorem sum_zero {f : Nat → Nat} : ∀ n, (∀ i, i < n → f i = 0) → sumN n f = 0 := by
  intro n
  induction n with
  | zero => intro _; rfl
  | succ n ih => intro h; rw [sum_s, ih (fun i hi => h i (by omega)), h n (by omega)]
theorem sum_if {p : Prop} [Decidable p] {n : Nat} {f : Nat → Nat} : sumN n (fun q => if p then f q else 0) = if p then sumN n f else 0 := by
  by_cases z : p
  · rw [if_pos z]; exact sum_c (fun i _ => if_pos z)
  · rw [if_neg z]; exact sum_zero n (fun i _ => if_neg z)
theorem lf_sum (hR : RowOk m) : ∀ (k h S w : Nat) (u v : Nat → Int32), h + k = nH m → Left m S v → pc S = w → w + nbH m h = nbH m (nH m) → sumN (fact w) (fun c => lf m k h S c w u v) = cnt m (fun h g => mayP m h g && inP m h g) k h u v := by
  have h8 := hR.H8; have g8 := hR.G8
  intro k
  induction k with
  | zero =>
    intro h S w u v hk hL hw hn
    obtain rfl : h = nH m := hk
    have : w = 0 := by omega
    rw [this, show fact 0 = 0 + 1 from rfl, sum_s, sum_0, Nat.zero_add]
    rfl
  | succ k ih =>
    intro h S w u v hk hL hw hn
    by_cases z : hsP m h = true
    · have nb1 : nbH m (h + 1) = nbH m h + 1 := by
        show nbH m h + (if hsP m h = true then 1 else 0) = _
        rw [if_pos z]
      have mono : ∀ j, nbH m (h + 1) ≤ nbH m (h + 1 + j) := by
        intro j
        induction j with
        | zero => exact Nat.le_refl _
        | succ j ihj => exact Nat.le_trans ihj (Nat.le_add_right _ _)
      have hm := mono k
      rw [show h + 1 + k = nH m by omega] at hm
      obtain ⟨w', rfl⟩ : ∃ w', w = w' + 1 := ⟨w - 1, by omega⟩
      have e1 : sumN (fact (w' + 1)) (fun c => lf m (k + 1) h S c (w' + 1) u v) = sumN (w' + 1) (fun r => sumN (fact w') (fun q => if mayP m h (kthN S r) = true then lf m k (h + 1) (S - 2 ^ kthN S r) q w' (upd u h (nI (kthN S r))) (upd v (kthN S r) (nI h)) else 0)) := by
        rw [← sum_dm (by omega) (fun r q => if mayP m h (kthN S r) = true then lf m k (h + 1) (S - 2 ^ kthN S r) q w' (upd u h (nI (kthN S r))) (upd v (kthN S r) (nI h)) else 0)]
        exact sum_c (fun c _ => by rw [lf, if_pos z, Nat.add_sub_cancel])
      rw [e1, ← hw, pick_sum hL.1 (fun g => sumN (fact w') (fun q => if mayP m h g = true then lf m k (h + 1) (S - 2 ^ g) q w' (upd u h (nI g)) (upd v g (nI h)) else 0))]
      rw [cnt, if_pos z]
      show _ = sumN (nG m) (fun g => if v g = -1 ∧ (mayP m h g && inP m h g) = true then cnt m (fun h g => mayP m h g && inP m h g) k (h + 1) (upd u h (nI g)) (upd v g (nI h)) else 0)
      rw [show 8 = nG m + (8 - nG m) by omega, sum_app]
      rw [sum_zero (8 - nG m) (fun i hi => if_neg (fun q => by have := ((hL.2 (nG m + i) (by omega)).1 q).1; omega)), Nat.add_zero]
      refine sum_c (fun g hg => ?_)
      by_cases y : S.testBit g = true
      · have yl := (hL.2 g (by omega)).1 y
        rw [if_pos y, sum_if]
        obtain ⟨l1, l2⟩ := hL.sub (by omega) y (show h < 2 ^ 31 by omega)
        by_cases p : mayP m h g = true
        · rw [if_pos p, if_pos ⟨yl.2.2, by rw [p, show inP m h g = true from yl.2.1]; rfl⟩]
          exact ih (h + 1) (S - 2 ^ g) w' _ _ (by omega) l1 (by omega) (by omega)
        · rw [if_neg p, if_neg (fun q => p (by have := q.2; rw [Bool.and_eq_true] at this; exact this.1))]
      · rw [if_neg y, if_neg (fun q => y ((hL.2 g (by omega)).2 ⟨hg, by have := q.2; rw [Bool.and_eq_true] at this; exact this.2, q.1⟩))]
    · rw [sum_c (g := fun c => lf m k (h + 1) S c w u v) (fun c _ => by rw [lf, if_neg z]), cnt, if_neg z]
      refine ih (h + 1) S w u v (by omega) hL hw ?_
      show w + (nbH m h + (if hsP m h = true then 1 else 0)) = _
      rw [if_neg z, Nat.add_zero]
      exact hn
end LS
