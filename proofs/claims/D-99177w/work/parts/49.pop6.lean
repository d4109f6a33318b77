/-! ===== PURE: waits odds ===== -/
section P6
variable {x t : Nat} {V : Nat → Nat → Int32} {m : Nat → Int32} {Q : Int32 → Prop} {Q2 : Int32 → (Nat → Nat → Int32) → Prop} {P : Prop} {X : String → Prop}
theorem rain_r (hR : RowOk m) : ∃ r, r ≤ 100 ∧ m 5 = nI r := hR.2.2.2.2.2.2.2.2.2.2.2.2.1
theorem ten_step (a b j : Nat) (hb : 0 < b) : 10 * (10 ^ j * a / b) + 10 ^ j * a % b * 10 / b = 10 ^ (j + 1) * a / b ∧ 10 ^ j * a % b * 10 % b = 10 ^ (j + 1) * a % b := by
  have e := Nat.div_add_mod (10 ^ j * a) b
  generalize 10 ^ j * a / b = q at *
  generalize 10 ^ j * a % b = r at *
  have e2 : 10 ^ (j + 1) * a = b * (10 * q) + r * 10 := by
    rw [Nat.pow_succ, Nat.mul_comm (10 ^ j) 10, Nat.mul_assoc, ← e, Nat.mul_add, Nat.mul_comm r 10]
    congr 1
    rw [← Nat.mul_assoc, ← Nat.mul_assoc, Nat.mul_comm 10 b]
  rw [e2, Nat.mul_add_div hb, Nat.mul_add_mod]
  exact ⟨rfl, rfl⟩
theorem s1_ten {a b : Nat} (hb : 0 < b) (hb2 : b < 2 ^ 58) (hab : a ≤ b) (hq : Q (nI (10000 * a / b))) : wX1_tenThousandths (lN a) (lN b) Q := by
  have nb : ¬ lN b = 0 := fun z => by
    have := (pk_lEQ (a := b) (b := 0) (by omega) (by decide)).mp z
    omega
  refine ⟨nb, nm_r (pk_lDiv (by omega) hb (by omega)) ⟨nb, nm_r (pk_lRem (by omega) hb (by omega)) ?_⟩⟩
  refine fo_loop (fun n (_ : Unit) j => wX1_tenThousandths_13 (lN a) (lN b) Q n (lN (10 ^ j * a / b)) (lN (10 ^ j * a % b)) (nI j)) (fun _ z => z) (fun _ => Q (nI (10000 * a / b))) 4 ?_ ?_ 4 0 () rfl hq |> fun ⟨n, h⟩ => ⟨n, by rw [Nat.pow_zero, Nat.one_mul] at h; exact h⟩
  · intro n _ hP
    rw [wX1_tenThousandths_13]
    exact br_t (by decide) (by rw [lN_i]; exact hP)
  · intro n _ j hj hk
    rw [wX1_tenThousandths_13]
    have hr := Nat.mod_lt (10 ^ j * a) hb
    have st := ten_step a b j hb
    refine br_f (nI_ge hj (by decide)) (nm_r (show lN (10 ^ j * a % b) * (10 : Int64) = lN (10 ^ j * a % b * 10) from lN_mul _ 10) ⟨nb, ?_⟩)
    rw [pk_lDiv (by omega) hb (by omega), show (10 : Int64) * lN (10 ^ j * a / b) = lN (10 * (10 ^ j * a / b)) from lN_mul 10 _, lN_add, st.1]
    refine nm_e ⟨nb, ?_⟩
    have er := pk_lRem (a := 10 ^ j * a % b * 10) (b := b) (by omega) hb (by omega)
    rw [pk_lDiv (by omega) hb (by omega)] at er
    refine nm_r (by rw [er, st.2]) (nm_r (nI_1 j) hk)
theorem s6_power {p n : Nat} {Q : Int64 → Prop} (hp : p < 2 ^ 31) (hn : n < 2 ^ 31) (hq : Q (lN (p ^ n))) : wX6_power (nI p) (nI n) Q := by
  refine fo_loop (fun f (_ : Unit) j => wX6_power_5 (nI p) (nI n) Q f (lN (p ^ j)) (nI j)) (fun _ z => z) (fun _ => Q (lN (p ^ n))) n ?_ ?_ n 0 () (Nat.zero_add _) hq
  · intro f _ hP
    rw [wX6_power_5]
    exact br_t (Int32.le_refl _) hP
  · intro f _ j hj hk
    rw [wX6_power_5]
    refine br_f (nI_ge hj hn) (nm_r ?_ (nm_r (nI_1 j) hk))
    rw [nI_l hp, lN_mul, Nat.pow_succ]
def f_waits (m : Nat → Int32) (n : Nat) : Int32 := nI (10000 * (100 ^ n - (m 5).toNatClampNeg ^ n) / 100 ^ n)
def o_waits (m : Nat → Int32) (a b : Int32) : Ot := if isQuarterP b then (if inI a 0 8 then .inl (f_waits m a.toNatClampNeg) else .inr (xIa, 2)) else .inr (xIo, 1)
theorem pow_100 {n : Nat} (hn : n ≤ 8) : 100 ^ n < 2 ^ 58 := Nat.lt_of_le_of_lt (Nat.pow_le_pow_right (by decide) hn) (by decide)
theorem s1_waits {a b : Int32} (hW : WRel V (x + 1) m) (hR : RowOk m) (hq : oC (o_waits m a b) Q X) : wX1_waits x V a b Q X := by
  unfold o_waits at hq
  refine e1_quarterAt ?_
  split
  · next c =>
    rw [if_pos c] at hq
    refine s1_in (e1_demand ?_)
    by_cases d : inI a 0 8
    · rw [if_pos d] at hq
      rw [if_neg (by rw [b2i_t d]; decide)]
      obtain ⟨n, hn, rfl⟩ := (inI_lit (n := 8) (by decide)).mp d
      obtain ⟨p, hp, ep⟩ := rain_r hR
      rw [nI_clamp (by omega)] at hq
      change Q (f_waits m n) at hq
      unfold f_waits at hq
      rw [ep, nI_clamp (by omega)] at hq
      refine fo_loop (fun f (_ : Unit) j => wX1_waits_22 x V (nI n) b Q X f (lN (p ^ j)) (lN (100 ^ j)) (nI j)) (fun _ z => z) (fun _ => Q (nI (10000 * (100 ^ n - p ^ n) / 100 ^ n))) n ?_ ?_ n 0 () (Nat.zero_add _) hq
      · intro f _ hP
        rw [wX1_waits_22, lN_sub (Nat.pow_le_pow_left hp n)]
        exact br_t (Int32.le_refl _) (s1_ten (Nat.pow_pos (by decide)) (pow_100 hn) (Nat.sub_le _ _) hP)
      · intro f _ j hj hk
        rw [wX1_waits_22, hW.1.2.2.2.1, ep, nI_l (by omega), lN_mul, show lN (100 ^ j) * (100 : Int64) = lN (100 ^ j * 100) from lN_mul _ 100]
        exact br_f (nI_ge hj (by omega)) (nm_r (by rw [Nat.pow_succ]) (nm_r (by rw [Nat.pow_succ]) (nm_r (nI_1 j) hk)))
    · rw [if_neg d] at hq
      rw [if_pos (b2i_f d)]
      exact hq
  · next c => rw [if_neg c] at hq; exact hq
theorem s6_waits {a b : Int32} (hR : RowOk (V (t + 1))) (hq : oT (o_waits (V (t + 1)) a b) t V Q2) : wX6_waits t V a b Q2 := by
  unfold o_waits at hq
  refine s6_isQuarter (p_bn ?_)
  split
  · next c =>
    rw [if_pos c] at hq
    refine s6_isIn (p_bn ?_)
    split
    · next d =>
      rw [if_pos d] at hq
      refine t_thr ?_
      rw [if_pos (by decide)]
      have e1 : vset V t 0 0 (t + 1) = V (t + 1) := vt1
      change Q2 (f_waits _ _) _ at hq
      rw [← e1] at hq hR
      generalize vset V t 0 0 = V1 at *
      obtain ⟨n, hn, rfl⟩ := (inI_lit (n := 8) (by decide)).mp d
      obtain ⟨p, hp, ep⟩ := rain_r hR
      rw [nI_clamp (by omega)] at hq
      unfold f_waits at hq
      rw [ep, nI_clamp (by omega)] at hq
      rw [ep]
      refine s6_power (p := 100) (by decide) (by omega) (s6_power (by omega) (by omega) ?_)
      rw [lN_sub (Nat.pow_le_pow_left hp n)]
      have b1 := pow_100 hn
      refine nm_e (br_c (fun z => ?_) (fun z => ?_))
      · have z2 : 2 ≤ n := (nI_leI (a := 2) (by decide) (by omega)).mp z
        have b2 := pow_100 (n := n - 2) (by omega)
        have b3 : 0 < 100 ^ (n - 2) := Nat.pow_pos (by decide)
        rw [show nI n - (2 : Int32) = nI (n - 2) from pk_sub (b := 2) z2]
        refine s6_power (p := 100) (by decide) (by omega) ⟨fun z => ?_, ?_⟩
        · have := (pk_lEQ (a := 100 ^ (n - 2)) (b := 0) (by omega) (by decide)).mp z
          omega
        · rw [pk_lDiv (by omega) b3 (by omega), lN_i]
          have e4 : 10000 * (100 ^ n - p ^ n) / 100 ^ n = (100 ^ n - p ^ n) / 100 ^ (n - 2) := by
            generalize 100 ^ n - p ^ n = k
            rw [show 100 ^ n = 10000 * 100 ^ (n - 2) by rw [show (10000 : Nat) = 100 ^ 2 from rfl, ← Nat.pow_add]; congr 1; omega]
            exact Nat.mul_div_mul_left _ _ (by decide)
          rw [e4] at hq
          exact hq
      · have z2 : n < 2 := Nat.not_le.mp fun q => z (nI_le (a := 2) q (by omega))
        have b3 : 0 < 100 ^ n := Nat.pow_pos (by decide)
        have b4 : 100 ^ n ≤ 100 ^ 1 := Nat.pow_le_pow_right (by decide) (by omega)
        refine s6_power (p := 100) (by decide) (by omega) ⟨fun z => ?_, ?_⟩
        · have := (pk_lEQ (a := 100 ^ n) (b := 0) (by omega) (by decide)).mp z
          omega
        · rw [show (10000 : Int64) * lN (100 ^ n - p ^ n) = lN (10000 * (100 ^ n - p ^ n)) from lN_mul 10000 _, pk_lDiv (by omega) b3 (by omega), lN_i]
          exact hq
    · next d =>
      rw [if_neg d] at hq
      exact t_thr (by rw [if_neg (by decide)]; exact hq _)
  · next c =>
    rw [if_neg c] at hq
    exact t_thr (by rw [if_neg (by decide)]; exact hq _)
/-! ===== odds ===== -/
def f_oddsS (p n k : Nat) : Nat := fo (fun s a => if k ≤ pc s then a + (100 - p) ^ pc s * p ^ (n - pc s) else a) (2 ^ n) 0 0
def f_odds (m : Nat → Int32) (n k : Nat) : Int32 := (((10000 : Int64) * lN (f_oddsS (m 5).toNatClampNeg n k)) / lN (100 ^ n)).toInt32
def o_odds (m : Nat → Int32) (a b : Int32) : Ot := if inI a 0 7 ∧ inI b 0 8 then .inl (f_odds m a.toNatClampNeg b.toNatClampNeg) else .inr (xIa, 1)
theorem odds_bits : ∀ (i : Fin 7) (s : Fin 128), (isOf (nI s.val) (nI i.val) → pc (s.val % 2 ^ (i.val + 1)) = pc (s.val % 2 ^ i.val) + 1) ∧ (¬ isOf (nI s.val) (nI i.val) → pc (s.val % 2 ^ (i.val + 1)) = pc (s.val % 2 ^ i.val)) ∧ pc (s.val % 2 ^ i.val) ≤ i.val := by decide +kernel
theorem odds_sh : ∀ n : Fin 8, (1 : Int32) <<< (nI n.val &&& 31) = nI (2 ^ n.val) := by decide +kernel
theorem pow_2 {n : Nat} (hn : n ≤ 7) : 2 ^ n ≤ 128 := Nat.pow_le_pow_right (by decide) hn
theorem pc_le {r n : Nat} (hn : n ≤ 7) (hr : r < 2 ^ n) : pc r ≤ n := by
  have := pow_2 hn
  by_cases c : n = 7
  · have : ∀ r : Fin 128, pc r.val ≤ 7 := by decide +kernel
    have h2 : pc r ≤ 7 := this ⟨r, by omega⟩
    omega
  · have := (odds_bits ⟨n, by omega⟩ ⟨r, by omega⟩).2.2
    rw [Nat.mod_eq_of_lt hr] at this
    exact this
theorem s1_odds {a b : Int32} (hW : WRel V (x + 1) m) (hR : RowOk m) (hq : oC (o_odds m a b) Q X) : wX1_odds x V a b Q X := by
  unfold o_odds at hq
  have bad : ¬ (inI a 0 7 ∧ inI b 0 8) → wX1_odds_24 x V a b Q X := by
    intro c
    rw [if_neg c] at hq
    exact e1_demand (by rw [if_pos rfl]; exact hq)
  refine s1_in (p_bz ?_)
  split
  · next c =>
    refine s1_in (p_bz ?_)
    split
    · next d =>
      rw [if_pos ⟨c, d⟩] at hq
      refine e1_demand ?_
      rw [if_neg (by decide)]
      obtain ⟨n, hn, rfl⟩ := (inI_lit (n := 7) (by decide)).mp c
      obtain ⟨k, hk, rfl⟩ := (inI_lit (n := 8) (by decide)).mp d
      obtain ⟨p, hp, ep⟩ := rain_r hR
      rw [nI_clamp (by omega), nI_clamp (by omega)] at hq
      change Q (f_odds m n k) at hq
      unfold f_odds at hq
      rw [ep, nI_clamp (by omega)] at hq
      have p2 := pow_2 hn
      refine fo_loop (fun f (_ : Unit) j => wX1_odds_36 x V (nI n) (nI k) Q X f 0 (lN (100 ^ j)) (nI j)) (fun _ z => z) (fun _ => Q (((10000 : Int64) * lN (f_oddsS p n k)) / lN (100 ^ n)).toInt32) n ?_ ?_ n 0 () (Nat.zero_add _) hq
      · intro f _ hP
        rw [wX1_odds_36]
        refine br_t (Int32.le_refl _) ?_
        refine fo_loop (fun f S s => wX1_odds_59 x V (nI n) (nI k) Q X f (lN S) (lN (100 ^ n)) (nI s)) (fun s a => if k ≤ pc s then a + (100 - p) ^ pc s * p ^ (n - pc s) else a) (fun S => Q (((10000 : Int64) * lN S) / lN (100 ^ n)).toInt32) (2 ^ n) ?_ ?_ (2 ^ n) 0 0 (Nat.zero_add _) hP
        · intro f S hP
          rw [wX1_odds_59, show (1 : Int32) <<< (nI n &&& 31) = nI (2 ^ n) from odds_sh ⟨n, by omega⟩]
          refine br_t (Int32.le_refl _) ⟨fun z => ?_, hP⟩
          have b1 := pow_100 (n := n) (by omega)
          have b3 : 0 < 100 ^ n := Nat.pow_pos (by decide)
          have := (pk_lEQ (a := 100 ^ n) (b := 0) (by omega) (by decide)).mp z
          omega
        · intro f S s hs hk2
          have ps := pc_le hn hs
          rw [wX1_odds_59, show (1 : Int32) <<< (nI n &&& 31) = nI (2 ^ n) from odds_sh ⟨n, by omega⟩]
          refine br_f (nI_ge hs (by omega)) (s_bitCount (by omega) (br_c (fun z => ?_) (fun z => ?_)))
          · rw [if_pos ((nI_leI (by omega) (by omega)).mp z)] at hk2
            refine fo_loop (fun f2 (_ : Unit) i => wX1_odds_85 x V (nI n) (nI k) Q X (fun x3 x5 x7 => wX1_odds_59 x V (nI n) (nI k) Q X f x3 x5 x7) f2 (lN S) (lN (100 ^ n)) (nI s) (lN ((100 - p) ^ pc (s % 2 ^ i) * p ^ (i - pc (s % 2 ^ i)))) (nI i)) (fun _ z => z) (fun _ => wX1_odds_59 x V (nI n) (nI k) Q X f (lN (S + (100 - p) ^ pc s * p ^ (n - pc s))) (lN (100 ^ n)) (nI (s + 1))) n ?_ ?_ n 0 () (Nat.zero_add _) hk2 |> fun ⟨f2, h⟩ => ⟨f2, by rw [show (100 - p) ^ pc (s % 2 ^ 0) * p ^ (0 - pc (s % 2 ^ 0)) = 1 by rw [Nat.pow_zero, Nat.mod_one]; rfl] at h; exact h⟩
            · intro f2 _ hP
              rw [wX1_odds_85, Nat.mod_eq_of_lt hs, lN_add]
              exact br_t (Int32.le_refl _) (nm_e (nm_r (nI_1 s) hP))
            · intro f2 _ i hi hk3
              rw [wX1_odds_85]
              have ob := odds_bits ⟨i, by omega⟩ ⟨s, by omega⟩
              simp only at ob
              refine br_f (nI_ge hi (by omega)) (s1_has (p_bz ?_))
              split
              · next z =>
                rw [ob.1 z] at hk3
                rw [hW.1.2.2.2.1, ep, show (100 : Int32) - nI p = nI (100 - p) from pk_sub (a := 100) hp, nI_l (by omega), lN_mul]
                refine nm_r ?_ (nm_r (nI_1 i) hk3)
                rw [show i + 1 - (pc (s % 2 ^ i) + 1) = i - pc (s % 2 ^ i) by omega, Nat.pow_succ, Nat.mul_right_comm]
              · next z =>
                rw [ob.2.1 z] at hk3
                rw [hW.1.2.2.2.1, ep, nI_l (by omega), lN_mul]
                refine nm_r ?_ (nm_r (nI_1 i) hk3)
                rw [show i + 1 - pc (s % 2 ^ i) = (i - pc (s % 2 ^ i)) + 1 by omega, Nat.pow_succ, Nat.mul_assoc]
          · rw [if_neg (fun q => z ((nI_leI (by omega) (by omega)).mpr q))] at hk2
            exact nm_r (nI_1 s) hk2
      · intro f _ j hj hk
        rw [wX1_odds_36, show lN (100 ^ j) * (100 : Int64) = lN (100 ^ j * 100) from lN_mul _ 100]
        exact br_f (nI_ge hj (by omega)) (nm_r (by rw [Nat.pow_succ]) (nm_r (nI_1 j) hk))
    · next d => exact bad (fun z => d z.2)
  · next c => exact bad (fun z => c z.1)
theorem s6_odds {a b : Int32} (hR : RowOk (V (t + 1))) (hq : oT (o_odds (V (t + 1)) a b) t V Q2) : wX6_odds t V a b Q2 := by
  unfold o_odds at hq
  have bad : ¬ (inI a 0 7 ∧ inI b 0 8) → wX6_odds_21 t a b Q2 V := by
    intro c
    rw [if_neg c] at hq
    exact t_thr (by rw [if_neg (by decide)]; exact hq _)
  refine s6_isIn (p_bz ?_)
  split
  · next c =>
    refine s6_isIn (p_bn ?_)
    split
    · next d =>
      rw [if_pos ⟨c, d⟩] at hq
      refine t_thr ?_
      rw [if_pos (by decide)]
      have e1 : vset V t 0 0 (t + 1) = V (t + 1) := vt1
      change Q2 (f_odds _ _ _) _ at hq
      rw [← e1] at hq hR
      generalize vset V t 0 0 = V1 at *
      obtain ⟨n, hn, rfl⟩ := (inI_lit (n := 7) (by decide)).mp c
      obtain ⟨k, hk, rfl⟩ := (inI_lit (n := 8) (by decide)).mp d
      obtain ⟨p, hp, ep⟩ := rain_r hR
      rw [nI_clamp (by omega), nI_clamp (by omega)] at hq
      unfold f_odds at hq
      rw [ep, nI_clamp (by omega)] at hq
      have p2 := pow_2 hn
      refine fo_loop (fun f S s => wX6_odds_43 t (nI n) (nI k) Q2 f V1 (lN S) (nI s)) (fun s a => if k ≤ pc s then a + (100 - p) ^ pc s * p ^ (n - pc s) else a) (fun S => Q2 (((10000 : Int64) * lN S) / lN (100 ^ n)).toInt32 V1) (2 ^ n) ?_ ?_ (2 ^ n) 0 0 (Nat.zero_add _) hq
      · intro f S hP
        rw [wX6_odds_43, show (1 : Int32) <<< (nI n &&& 31) = nI (2 ^ n) from odds_sh ⟨n, by omega⟩]
        refine br_t (Int32.le_refl _) (s6_power (p := 100) (by decide) (by omega) ⟨fun z => ?_, hP⟩)
        have b1 := pow_100 (n := n) (by omega)
        have b3 : 0 < 100 ^ n := Nat.pow_pos (by decide)
        have := (pk_lEQ (a := 100 ^ n) (b := 0) (by omega) (by decide)).mp z
        omega
      · intro f S s hs hk2
        have ps := pc_le hn hs
        rw [wX6_odds_43, show (1 : Int32) <<< (nI n &&& 31) = nI (2 ^ n) from odds_sh ⟨n, by omega⟩]
        refine br_f (nI_ge hs (by omega)) (s6_bits (by omega) (br_c (fun z => ?_) (fun z => ?_)))
        · rw [if_neg (Nat.not_le.mpr ((nI_ltI (by omega) (by omega)).mp z))] at hk2
          exact nm_r (nI_1 s) hk2
        · rw [if_pos (Nat.not_lt.mp fun q => z (nI_lt q (by omega)))] at hk2
          rw [ep, show (100 : Int32) - nI p = nI (100 - p) from pk_sub (a := 100) hp]
          refine s6_bits (by omega) (s6_power (by omega) (by omega) (s6_bits (by omega) ?_))
          rw [pk_sub ps]
          refine s6_power (by omega) (by omega) (nm_r ?_ (nm_r (nI_1 s) hk2))
          rw [lN_mul, lN_add]
    · next d => exact bad (fun z => d z.2)
  · next c => exact bad (fun z => c z.1)
end P6
