/-! ===== PURE: the tape; hand ===== -/
/-- a loop that looks, folds, and leaves at the first that is not so -/
def exB {α : Type} (ok : Nat → α → Bool) (step : Nat → α → α) : Nat → Nat → α → Bool
  | 0, _, _ => true
  | k + 1, i, a => ok i a && exB ok step k (i + 1) (step i a)
theorem ex_loop {α : Type} (W : Nat → α → Nat → Prop) (ok : Nat → α → Bool) (step : Nat → α → α) (T F : Prop) (e : Nat) (hx : ∀ n a, T → W (n + 1) a e) (hs : ∀ n a i, i < e → ok i a = true → W n (step i a) (i + 1) → W (n + 1) a i) (hf : ∀ a i, i < e → ok i a = false → F → ∃ n, W n a i) : ∀ (k i : Nat) (a : α), i + k = e → (if exB ok step k i a = true then T else F) → ∃ n, W n a i := by
  intro k
  induction k with
  | zero =>
    intro i a hi hP
    obtain rfl : i = e := hi
    exact ⟨1, hx 0 a hP⟩
  | succ k ih =>
    intro i a hi hP
    cases hp : ok i a with
    | true =>
      have h2 : exB ok step (k + 1) i a = exB ok step k (i + 1) (step i a) := by
        show (ok i a && _) = _
        rw [hp, Bool.true_and]
      rw [h2] at hP
      obtain ⟨n, hn⟩ := ih (i + 1) _ (by omega) hP
      exact ⟨n + 1, hs n a i (by omega) hp hn⟩
    | false =>
      have h2 : exB ok step (k + 1) i a = false := by
        show (ok i a && _) = _
        rw [hp, Bool.false_and]
      rw [h2, if_neg (by decide)] at hP
      exact hf a i (by omega) hp hP
theorem exB_all {α : Type} {ok : Nat → α → Bool} {step : Nat → α → α} : ∀ {k i : Nat} {a : α}, exB ok step k i a = true → ∀ j, i ≤ j → j < i + k → ∃ b, ok j b = true := by
  intro k
  induction k with
  | zero => intro i a _ j h1 h2; omega
  | succ k ih =>
    intro i a h j h1 h2
    have h3 := (Bool.and_eq_true _ _).mp h
    rcases Nat.eq_or_lt_of_le h1 with rfl | h4
    · exact ⟨a, h3.1⟩
    · exact ih h3.2 j h4 (by omega)
/-- a tape of L bytes -/
def TapeOk (T : Nat → Int32) (L : Nat) : Prop := L ≤ 400 ∧ ∀ i, i < L → ∃ b, b < 256 ∧ T i = nI b
/-- the component's reader at r holds the tape -/
def TapeC (V : Nat → Nat → Int32) (r L : Nat) (T : Nat → Int32) : Prop := V r 1 = nI L ∧ ∀ i, i < L → V (r + 1) i = T i
/-- the twin's tape -/
def TapeT (V : Nat → Nat → Int32) (t L : Nat) (T : Nat → Int32) : Prop := V t 8 = nI L ∧ ∀ i, i < L → V (t + 5) i = T i
/-- the reader once it has begun -/
def begun (V : Nat → Nat → Int32) (r : Nat) : Nat → Nat → Int32 := vset (vset (vset (vset V r 2 (V r 1)) r 1 (0 : Int32)) r 3 (0 : Int32)) r 6 (0 : Int32)
theorem begun_n {V : Nat → Nat → Int32} {r a : Nat} (h : a ≠ r) : begun V r a = V a := by
  unfold begun
  rw [vset_n _ _ _ h, vset_n _ _ _ h, vset_n _ _ _ h, vset_n _ _ _ h]
theorem begun_2 {V : Nat → Nat → Int32} {r : Nat} : begun V r r 2 = V r 1 := by
  unfold begun
  rw [vset_s, pk_un (by decide), vset_s, pk_un (by decide), vset_s, pk_un (by decide), vset_s, pk_us]
theorem WRel.frame {V V' : Nat → Nat → Int32} {w : Nat} {m : Nat → Int32} (h : WRel V w m) (e : ∀ a, w ≤ a → a < w + 36 → V' a = V a) (h8 : nH m ≤ 8) (g8 : nG m ≤ 8) : WRel V' w m := by
  obtain ⟨a1, a2, a3, a4, a5, a6⟩ := h
  refine ⟨?_, fun h hh => ?_, fun g hg => ?_, fun h g hh hg => ?_, fun h q hh hq => ?_, fun k hk => ?_⟩
  · rw [e w (by omega) (by omega)]; exact a1
  · rw [e (w + 1) (by omega) (by omega), e (w + 2) (by omega) (by omega), e (w + 3) (by omega) (by omega), e (w + 4) (by omega) (by omega)]; exact a2 h hh
  · rw [e (w + 5) (by omega) (by omega), e (w + 6) (by omega) (by omega), e (w + 7) (by omega) (by omega)]; exact a3 g hg
  · rw [e (w + 8 + 1 + h) (by omega) (by omega), e (w + 17 + 1 + g) (by omega) (by omega)]; exact a4 h g hh hg
  · rw [e (w + 26 + 1 + h) (by omega) (by omega)]; exact a5 h q hh hq
  · rw [e (w + 35) (by omega) (by omega)]; exact a6 k hk
/-! ===== hand ===== -/
def f_wrong (m T : Nat → Int32) (L h : Nat) : Int32 := fo (fun i a => fo (fun j a => a + (if m (67 + 8 * h + (T j).toNatClampNeg) ≤ m (67 + 8 * h + (T i).toNatClampNeg) then 0 else 1)) (L - (i + 1)) (i + 1) a) L 0 0
def f_handOk (m T : Nat → Int32) (L : Nat) : Bool := exB (fun i (a : Int32) => decide (isGuestP m (T i) ∧ ¬ isOf a (T i))) (fun i a => a ||| ((1 : Int32) <<< (T i &&& 31))) L 0 0
def f_best (m T : Nat → Int32) (L : Nat) : Int32 := fo (fun h b => if b = -1 then nI h else if f_wrong m T L b.toNatClampNeg ≤ f_wrong m T L h then b else nI h) (nH m) 0 (-1)
def o_hand (m T : Nat → Int32) (L : Nat) (a : Int32) : Ot := if L ≤ 8 ∧ f_handOk m T L = true then .inl (if a = 0 then f_best m T L else if f_best m T L = -1 then 0 else f_wrong m T L (f_best m T L).toNatClampNeg) else .inr (xIa, 1)
theorem best_step {m T : Nat → Int32} {L n : Nat} : ∀ (j : Nat) (b : Int32), j < n → (b = -1 ∨ ∃ k, k < j ∧ b = nI k) → ((fun h b => if b = -1 then nI h else if f_wrong m T L b.toNatClampNeg ≤ f_wrong m T L h then b else nI h) j b = -1 ∨ ∃ k, k < j + 1 ∧ (fun h b => if b = -1 then nI h else if f_wrong m T L b.toNatClampNeg ≤ f_wrong m T L h then b else nI h) j b = nI k) := by
  intro j b _ hb
  refine Or.inr ?_
  rcases hb with rfl | ⟨k, hk, rfl⟩
  · exact ⟨j, by omega, if_pos rfl⟩
  · show ∃ k', k' < j + 1 ∧ (if nI k = -1 then nI j else if f_wrong m T L (nI k).toNatClampNeg ≤ f_wrong m T L j then nI k else nI j) = nI k'
    split
    · exact ⟨j, by omega, rfl⟩
    · split
      · exact ⟨k, by omega, rfl⟩
      · exact ⟨j, by omega, rfl⟩
theorem best_inv {m T : Nat → Int32} {L : Nat} (h8 : nH m ≤ 8) : f_best m T L = -1 ∨ ∃ b, b < nH m ∧ f_best m T L = nI b := by
  have := fo_inv (f := fun h b => if b = -1 then nI h else if f_wrong m T L b.toNatClampNeg ≤ f_wrong m T L h then b else nI h) (fun i (b : Int32) => b = -1 ∨ ∃ k, k < i ∧ b = nI k) (nH m) 0 (-1) (Or.inl rfl) (fun j b _ h2 hb => best_step (n := nH m) j b (by omega) hb)
  rw [Nat.zero_add] at this
  exact this
theorem nI_nm1 {k : Nat} (h : k < 2 ^ 31) : ¬ nI k = -1 := fun z => by
  have := congrArg Int32.toInt z
  rw [nI_toInt h] at this
  have h2 : (-1 : Int32).toInt = -1 := by decide
  omega
theorem mask_step : ∀ (M : Fin 256) (g : Fin 8), ¬ isOf (nI M.val) (nI g.val) → nI M.val ||| ((1 : Int32) <<< (nI g.val &&& 31)) = nI (M.val ||| 2 ^ g.val) ∧ M.val ||| 2 ^ g.val < 256 ∧ pc (M.val ||| 2 ^ g.val) = pc M.val + 1 := by decide +kernel
theorem pc_256 : ∀ M : Fin 256, pc M.val ≤ 8 := by decide +kernel
theorem hand_le {m T : Nat → Int32} (hR : RowOk m) : ∀ (k i M : Nat), M < 256 → pc M = i → exB (fun i (a : Int32) => decide (isGuestP m (T i) ∧ ¬ isOf a (T i))) (fun i a => a ||| ((1 : Int32) <<< (T i &&& 31))) k i (nI M) = true → i + k ≤ 8 := by
  intro k
  induction k with
  | zero =>
    intro i M hM hp _
    have h2 : pc M ≤ 8 := pc_256 ⟨M, hM⟩
    omega
  | succ k ih =>
    intro i M hM hp h
    have h3 := (Bool.and_eq_true _ _).mp h
    have h4 := of_decide_eq_true h3.1
    obtain ⟨g, hg, hg8, eg⟩ := hR.guest h4.1
    rw [eg] at h4
    obtain ⟨a1, a2, a3⟩ := mask_step ⟨M, hM⟩ ⟨g, hg8⟩ h4.2
    have h5 : exB (fun i (a : Int32) => decide (isGuestP m (T i) ∧ ¬ isOf a (T i))) (fun i a => a ||| ((1 : Int32) <<< (T i &&& 31))) k (i + 1) (nI M ||| ((1 : Int32) <<< (T i &&& 31))) = true := h3.2
    rw [eg, a1] at h5
    have := ih (i + 1) (M ||| 2 ^ g) a2 (by rw [a3, hp]) h5
    omega
theorem guest_nI {m : Nat → Int32} (hR : RowOk m) {b : Nat} (hb : b < 2 ^ 31) : isGuestP m (nI b) ↔ ¬ m 4 ≤ nI b := by
  have g8 := hR.G8
  unfold isGuestP
  rw [hR.G, inI_nat (by omega), nI_leI (by omega) hb]
  constructor
  · rintro ⟨k, hk, e⟩
    have := (nI_eq hb (by omega)).mp e
    omega
  · intro h
    exact ⟨b, by omega, rfl⟩
section P7
variable {x t : Nat} {V : Nat → Nat → Int32} {m T : Nat → Int32} {L : Nat} {Q : Int32 → Prop} {Q2 : Int32 → (Nat → Nat → Int32) → Prop} {P : Prop} {X : String → (Nat → Nat → Int32) → Prop}
theorem s1_wrong {h : Nat} (hW : WRel V (x + 1) m) (hR : RowOk m) (hT : ∀ i, i < L → isGuestP m (T i)) (hL : L ≤ 8) (hr : V (x + 109) 2 = nI L) (ht : ∀ i, i < L → V (x + 109 + 1) i = T i) (hh : h < nH m) (hq : Q (f_wrong m T L h)) : wX1_wrongOrders x V (nI h) Q := by
  have h8 := hR.H8; have g8 := hR.G8
  refine fo_loop (fun n a i => wX1_wrongOrders_10 x V (nI h) Q n a (nI i)) (fun i a => fo (fun j a => a + (if m (67 + 8 * h + (T j).toNatClampNeg) ≤ m (67 + 8 * h + (T i).toNatClampNeg) then 0 else 1)) (L - (i + 1)) (i + 1) a) Q L ?_ ?_ L 0 0 (Nat.zero_add _) hq
  · intro n a hP
    rw [wX1_wrongOrders_10, hr]
    exact br_t (Int32.le_refl _) hP
  · intro n a i hi hk
    rw [wX1_wrongOrders_10, hr]
    refine br_f (nI_ge hi (by omega)) (nm_r (nI_1 i) ?_)
    refine fo_loop (fun n2 a j => wX1_wrongOrders_25 x V (nI h) Q (fun x3 x4 => wX1_wrongOrders_10 x V (nI h) Q n x3 x4) n2 a (nI i) (nI j)) (fun j a => a + (if m (67 + 8 * h + (T j).toNatClampNeg) ≤ m (67 + 8 * h + (T i).toNatClampNeg) then 0 else 1)) (fun a => wX1_wrongOrders_10 x V (nI h) Q n a (nI (i + 1))) L ?_ ?_ (L - (i + 1)) (i + 1) a (by omega) hk
    · intro n2 a hP
      rw [wX1_wrongOrders_25, hr]
      exact br_t (Int32.le_refl _) (nm_r (nI_1 i) hP)
    · intro n2 a j hj hk
      obtain ⟨u, hu, hu8, eu⟩ := hR.guest (hT i hi)
      obtain ⟨v, hv, hv8, ev⟩ := hR.guest (hT j hj)
      rw [wX1_wrongOrders_25, hr, nI_clamp (show i < 2 ^ 31 by omega), nI_clamp (show j < 2 ^ 31 by omega), ht i hi, ht j hj, eu, ev, cl8 hu8, cl8 hv8, cl8 (show h < 8 by omega), hW.like hh hu, hW.like hh hv]
      rw [eu, ev, cl8 hu8, cl8 hv8] at hk
      refine br_f (nI_ge hj (by omega)) ⟨in8 (by omega), vp_in_nI (by omega) (by decide), in8 hu8, in8 (by omega), vp_in_nI (by omega) (by decide), in8 hv8, br_c (fun z => ?_) (fun z => ?_)⟩
      · rw [if_pos z] at hk; exact nm_e (nm_r (nI_1 j) hk)
      · rw [if_neg z] at hk; exact nm_e (nm_r (nI_1 j) hk)
theorem s6_wrong {h : Nat} (hR : RowOk (V (t + 1))) (hT : ∀ i, i < L → isGuestP (V (t + 1)) (T i)) (hL : L ≤ 8) (ht : ∀ i, i < L → V (t + 5) i = T i) (hh : h < 8) (hq : Q (f_wrong (V (t + 1)) T L h)) : wX6_wrongBy t V (nI h) (nI L) Q := by
  have g8 := hR.G8
  refine fo_loop (fun n a i => wX6_wrongBy_5 t V (nI h) (nI L) Q n a (nI i)) (fun i a => fo (fun j a => a + (if V (t + 1) (67 + 8 * h + (T j).toNatClampNeg) ≤ V (t + 1) (67 + 8 * h + (T i).toNatClampNeg) then 0 else 1)) (L - (i + 1)) (i + 1) a) Q L ?_ ?_ L 0 0 (Nat.zero_add _) hq
  · intro n a hP
    rw [wX6_wrongBy_5]
    exact br_t (Int32.le_refl _) hP
  · intro n a i hi hk
    rw [wX6_wrongBy_5]
    refine br_f (nI_ge hi (by omega)) (nm_r (nI_1 i) ?_)
    refine fo_loop (fun n2 a j => wX6_wrongBy_17 t V (nI h) (nI L) Q (fun x3 x4 => wX6_wrongBy_5 t V (nI h) (nI L) Q n x3 x4) n2 a (nI i) (nI j)) (fun j a => a + (if V (t + 1) (67 + 8 * h + (T j).toNatClampNeg) ≤ V (t + 1) (67 + 8 * h + (T i).toNatClampNeg) then 0 else 1)) (fun a => wX6_wrongBy_5 t V (nI h) (nI L) Q n a (nI (i + 1))) L ?_ ?_ (L - (i + 1)) (i + 1) a (by omega) hk
    · intro n2 a hP
      rw [wX6_wrongBy_17]
      exact br_t (Int32.le_refl _) (nm_r (nI_1 i) hP)
    · intro n2 a j hj hk
      obtain ⟨u, hu, hu8, eu⟩ := hR.guest (hT i hi)
      obtain ⟨v, hv, hv8, ev⟩ := hR.guest (hT j hj)
      rw [wX6_wrongBy_17, nI_clamp (show i < 2 ^ 31 by omega), nI_clamp (show j < 2 ^ 31 by omega), ht i hi, ht j hj, eu, ev]
      rw [eu, ev, cl8 hu8, cl8 hv8] at hk
      refine br_f (nI_ge hj (by omega)) ⟨vp_in_nI (by omega) (by decide), s6_rankOf hh hu8 ⟨vp_in_nI (by omega) (by decide), s6_rankOf hh hv8 (br_c (fun z => ?_) (fun z => ?_))⟩⟩
      · rw [if_pos z] at hk; exact nm_e (nm_r (nI_1 j) hk)
      · rw [if_neg z] at hk; exact nm_e (nm_r (nI_1 j) hk)
theorem s1_hand {a : Int32} (hW : WRel V (x + 1) m) (hR : RowOk m) (hT : L ≤ 400) (hC : TapeC V (x + 109) L T) (hq : oC (o_hand m T L a) (fun r => Q2 r (begun V (x + 109))) (fun e => X e (begun V (x + 109)))) : wX1_hand x V a Q2 X := by
  have h8 := hR.H8; have g8 := hR.G8; have hH := hR.H
  have hL := hT
  obtain ⟨c1, c2⟩ := hC
  unfold wX1_hand wX3_begins
  refine nm_e ?_
  change (_ → _) ∧ (_ → _)
  have e2 := begun_2 (V := V) (r := x + 109)
  have ew : WRel (begun V (x + 109)) (x + 1) m := hW.frame (fun a h1 h2 => begun_n (by omega)) h8 g8
  have et : ∀ i, i < L → begun V (x + 109) (x + 109 + 1) i = T i := fun i hi => by rw [begun_n (by omega)]; exact c2 i hi
  rw [c1] at e2
  change ((8 : Int32) < begun V (x + 109) (x + 109) 2 → wX1_hand_25 x a Q2 X (begun V (x + 109)) 0 0) ∧ (¬ (8 : Int32) < begun V (x + 109) (x + 109) 2 → wX1_hand_25 x a Q2 X (begun V (x + 109)) 0 1)
  generalize begun V (x + 109) = V1 at *
  rw [e2]
  unfold o_hand at hq
  refine br_c (fun z => ?_) (fun z => ?_)
  · have z2 : 8 < L := (nI_ltI (a := 8) (by decide) (by omega)).mp z
    rw [if_neg (fun q => by omega)] at hq
    exact e1_demand (by rw [if_pos rfl]; exact hq)
  · have z2 : L ≤ 8 := Nat.not_lt.mp fun q => z (nI_lt (a := 8) q (by omega))
    refine e1_demand ?_
    rw [if_neg (by decide)]
    refine ex_loop (fun n a1 i => wX1_hand_31 x a Q2 X n V1 a1 (nI i)) (fun i (a : Int32) => decide (isGuestP m (T i) ∧ ¬ isOf a (T i))) (fun i a => a ||| ((1 : Int32) <<< (T i &&& 31))) (∃ f9, wX1_hand_109 x a Q2 X f9 V1 (-1 : Int32) (0 : Int32)) (X xIa V1) L ?_ ?_ ?_ L 0 0 (Nat.zero_add _) ?_
    · intro n a1 hP
      rw [wX1_hand_31, e2]
      exact br_t (Int32.le_refl _) hP
    · intro n a1 i hi ho hk
      have ho := of_decide_eq_true ho
      have vi : vp_in (nI i) 400 := vp_in_nI (by omega) (by decide)
      rw [wX1_hand_31, e2, nI_clamp (show i < 2 ^ 31 by omega), et i hi, ew.guests]
      refine br_f (nI_ge hi (by omega)) ⟨vi, s1_in (p_bz ?_)⟩
      rw [if_pos ho.1]
      refine ⟨vi, s1_has (p_bn ?_)⟩
      rw [if_neg ho.2]
      refine e1_demand ?_
      rw [if_neg (by decide)]
      rw [nI_clamp (show i < 2 ^ 31 by omega), et i hi]
      exact ⟨vi, nm_e (nm_r (nI_1 i) hk)⟩
    · intro a1 i hi ho hk
      have ho := of_decide_eq_false ho
      have vi : vp_in (nI i) 400 := vp_in_nI (by omega) (by decide)
      refine ⟨1, ?_⟩
      rw [wX1_hand_31, e2, nI_clamp (show i < 2 ^ 31 by omega), et i hi, ew.guests]
      refine br_f (nI_ge hi (by omega)) ⟨vi, s1_in (p_bz ?_)⟩
      split
      · next z1 =>
        refine ⟨vi, s1_has (p_bn ?_)⟩
        rw [if_pos (Classical.byContradiction fun q => ho ⟨z1, q⟩)]
        exact e1_demand (by rw [if_pos rfl]; exact hk)
      · exact e1_demand (by rw [if_pos rfl]; exact hk)
    · split
      · next z3 =>
        rw [if_pos ⟨z2, z3⟩] at hq
        have hG : ∀ i, i < L → isGuestP m (T i) := fun i hi => by
          obtain ⟨b, hb⟩ := exB_all z3 i (Nat.zero_le _) (by omega)
          exact (of_decide_eq_true hb).1
        refine fo_loopI (fun n b h => wX1_hand_109 x a Q2 X n V1 b (nI h)) (fun h b => if b = -1 then nI h else if f_wrong m T L b.toNatClampNeg ≤ f_wrong m T L h then b else nI h) (fun b => (b = -1 ∨ ∃ k, k < nH m ∧ b = nI k) ∧ Q2 (if a = 0 then b else if b = -1 then 0 else f_wrong m T L b.toNatClampNeg) V1) (fun i b => b = -1 ∨ ∃ k, k < i ∧ b = nI k) (nH m) ?_ best_step ?_ (nH m) 0 (-1) (Nat.zero_add _) (Or.inl rfl) ⟨best_inv h8, hq⟩
        · intro n b hP
          obtain ⟨hb2, hP⟩ := hP
          rw [wX1_hand_109, ew.hosts]
          refine br_t (by rw [hH]; exact Int32.le_refl _) ⟨fun z => ?_, fun z => ?_⟩
          · rw [if_neg z] at hP
            refine ⟨fun z1 => ?_, fun z1 => ?_⟩
            · rw [if_neg z1] at hP
              obtain ⟨k, hk, rfl⟩ := hb2.resolve_left z1
              rw [cl8 (by omega)] at hP
              exact s1_wrong ew hR hG z2 e2 et hk hP
            · rw [if_pos z1] at hP; exact hP
          · rw [if_pos z] at hP; exact hP
        · intro n b h hh hI hk
          rw [wX1_hand_109, ew.hosts]
          refine br_f (by rw [hH]; exact nI_ge hh (by omega)) (br_c (fun z1 => ?_) (fun z1 => ?_))
          · rw [if_pos z1] at hk; exact nm_r (nI_1 h) hk
          · rw [if_neg z1] at hk
            obtain ⟨k, hk2, rfl⟩ := hI.resolve_left z1
            rw [cl8 (by omega)] at hk
            refine s1_wrong ew hR hG z2 e2 et hh (s1_wrong ew hR hG z2 e2 et (by omega) (br_c (fun z4 => ?_) (fun z4 => ?_)))
            · rw [if_pos z4] at hk; exact nm_r (nI_1 h) hk
            · rw [if_neg z4] at hk; exact nm_r (nI_1 h) hk
      · next z3 =>
        rw [if_neg (fun q => z3 q.2)] at hq
        exact hq
theorem s6_hand {a : Int32} (hR : RowOk (V (t + 1))) (hT : TapeOk T L) (hC : TapeT V t L T) (hq : oT (o_hand (V (t + 1)) T L a) t (vset V t 8 0) Q2) : wX6_hand t V a Q2 := by
  obtain ⟨hL, hb⟩ := hT
  obtain ⟨c1, c2⟩ := hC
  unfold wX6_hand
  refine nm_r c1 ?_
  have e1 : vset V t 8 0 (t + 1) = V (t + 1) := vt1
  have e5 : vset V t 8 0 (t + 5) = V (t + 5) := vset_n _ _ _ (by omega)
  rw [← e1] at hq hR
  rw [← e5] at c2
  generalize vset V t 8 0 = V0 at *
  have h8 := hR.H8; have g8 := hR.G8; have hH := hR.H; have hG := hR.G
  unfold o_hand at hq
  have bad : ∀ k1, ¬ (L ≤ 8 ∧ f_handOk (V0 (t + 1)) T L = true) → wX6_hand_100 t a Q2 V0 k1 1 := by
    intro k1 c
    rw [if_neg c] at hq
    exact t_thr (by rw [if_neg (by decide)]; exact hq _)
  have fin : ¬ (L ≤ 8 ∧ f_handOk (V0 (t + 1)) T L = true) → ∀ n a1 j, wX6_hand_18 t a Q2 (n + 1) V0 (nI L) a1 0 j := by
    intro c n a1 j
    rw [wX6_hand_18]
    exact ⟨fun _ => br_t rfl (bad _ c), fun _ => br_t rfl (br_t rfl (bad _ c))⟩
  refine ex_loop (fun n a1 i => wX6_hand_18 t a Q2 n V0 (nI L) a1 1 (nI i)) (fun i (a : Int32) => decide (isGuestP (V0 (t + 1)) (T i) ∧ ¬ isOf a (T i))) (fun i a => a ||| ((1 : Int32) <<< (T i &&& 31))) (wX6_hand_100 t a Q2 V0 (nI L) 0) (¬ (L ≤ 8 ∧ f_handOk (V0 (t + 1)) T L = true)) L ?_ ?_ ?_ L 0 0 (Nat.zero_add _) ?_
  · intro n a1 hP
    rw [wX6_hand_18]
    exact br_t (Int32.le_refl _) (br_f (by decide) hP)
  · intro n a1 i hi ho hk
    have ho := of_decide_eq_true ho
    obtain ⟨b, hb2, eb⟩ := hb i hi
    have vi : vp_in (nI i) 400 := vp_in_nI (by omega) (by decide)
    rw [wX6_hand_18, nI_clamp (show i < 2 ^ 31 by omega), c2 i hi]
    refine br_f (nI_ge hi (by omega)) (br_f (by decide) ⟨vi, br_f (by rw [eb] at ho ⊢; exact (guest_nI hR (by omega)).mp ho.1) ⟨vi, s6_isOf (p_bn ?_)⟩⟩)
    rw [if_neg ho.2]
    refine br_f (by decide) ⟨vi, nm_e (nm_r (nI_1 i) ?_)⟩
    rw [nI_clamp (show i < 2 ^ 31 by omega), c2 i hi]
    exact hk
  · intro a1 i hi ho hk
    have ho := of_decide_eq_false ho
    obtain ⟨b, hb2, eb⟩ := hb i hi
    have vi : vp_in (nI i) 400 := vp_in_nI (by omega) (by decide)
    refine ⟨2, ?_⟩
    rw [wX6_hand_18, nI_clamp (show i < 2 ^ 31 by omega), c2 i hi]
    have f0 : wX6_hand_63 t a Q2 (fun V x2 x3 x4 x5 => wX6_hand_18 t a Q2 1 V x2 x3 x4 x5) V0 (nI L) a1 (nI i) := br_t rfl (nm_e (fin hk 0 _ _))
    refine br_f (nI_ge hi (by omega)) (br_f (by decide) ⟨vi, br_c (fun _ => f0) (fun z => ⟨vi, s6_isOf (p_bn ?_)⟩)⟩)
    rw [if_pos (Classical.byContradiction fun q => ho ⟨by rw [eb] at z ⊢; exact (guest_nI hR (by omega)).mpr z, q⟩)]
    exact f0
  · split
    · next z3 =>
      have z2 : L ≤ 8 := by
        have := hand_le hR L 0 0 (by decide) (by decide) z3
        omega
      rw [if_pos ⟨z2, z3⟩] at hq
      refine t_thr ?_
      rw [if_pos (by decide)]
      have e1 : vset V0 t 0 0 (t + 1) = V0 (t + 1) := vt1
      have e5 : vset V0 t 0 0 (t + 5) = V0 (t + 5) := vset_n _ _ _ (by omega)
      change Q2 _ _ at hq
      change exB (fun i (a : Int32) => decide (isGuestP (V0 (t + 1)) (T i) ∧ ¬ isOf a (T i))) (fun i a => a ||| ((1 : Int32) <<< (T i &&& 31))) L 0 0 = true at z3
      rw [← e1] at hq hR z3 h8 hH
      rw [← e5] at c2
      clear e1 e5 bad fin hG g8
      generalize vset V0 t 0 0 = V1 at *
      have hG : ∀ i, i < L → isGuestP (V1 (t + 1)) (T i) := fun i hi => by
        obtain ⟨b, hb⟩ := exB_all z3 i (Nat.zero_le _) (by omega)
        exact (of_decide_eq_true hb).1
      refine fo_loopI (fun n b h => wX6_hand_118 t a Q2 n V1 (nI L) b (nI h)) (fun h b => if b = -1 then nI h else if f_wrong (V1 (t + 1)) T L b.toNatClampNeg ≤ f_wrong (V1 (t + 1)) T L h then b else nI h) (fun b => (b = -1 ∨ ∃ k, k < nH (V1 (t + 1)) ∧ b = nI k) ∧ Q2 (if a = 0 then b else if b = -1 then 0 else f_wrong (V1 (t + 1)) T L b.toNatClampNeg) V1) (fun i b => b = -1 ∨ ∃ k, k < i ∧ b = nI k) (nH (V1 (t + 1))) ?_ best_step ?_ (nH (V1 (t + 1))) 0 (-1) (Nat.zero_add _) (Or.inl rfl) ⟨best_inv h8, hq⟩
      · intro n b hP
        obtain ⟨hb2, hP⟩ := hP
        rw [wX6_hand_118]
        refine br_t (by rw [hH]; exact Int32.le_refl _) ⟨fun z => ?_, fun z => ?_⟩
        · rw [if_neg z] at hP
          refine ⟨fun z1 => ?_, fun z1 => ?_⟩
          · rw [if_neg z1] at hP
            obtain ⟨k, hk, rfl⟩ := hb2.resolve_left z1
            rw [cl8 (by omega)] at hP
            exact s6_wrong hR hG z2 c2 (by omega) hP
          · rw [if_pos z1] at hP; exact hP
        · rw [if_pos z] at hP; exact hP
      · intro n b h hh hI hk
        rw [wX6_hand_118]
        refine br_f (by rw [hH]; exact nI_ge hh (by omega)) (br_c (fun z1 => ?_) (fun z1 => ?_))
        · rw [if_pos z1] at hk; exact nm_r (nI_1 h) hk
        · rw [if_neg z1] at hk
          obtain ⟨k, hk2, rfl⟩ := hI.resolve_left z1
          rw [cl8 (by omega)] at hk
          refine s6_wrong hR hG z2 c2 (by omega) (s6_wrong hR hG z2 c2 (by omega) (br_c (fun z4 => ?_) (fun z4 => ?_)))
          · rw [if_pos z4] at hk; exact nm_r (nI_1 h) hk
          · rw [if_neg z4] at hk; exact nm_r (nI_1 h) hk
    · next z3 => exact fun q => z3 q.2
end P7
