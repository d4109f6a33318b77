/-! ===== PURE: the component reads what lines of the ground are made of ===== -/
section CG1
variable {sh : List jH} {V : Nat → Nat → Int32} {R : Nat → Nat → Option Nat} {x a b d L c n k : Nat} {T : Nat → Nat} {bs w : List Nat} {lo hi : Int32} {X : String → List jH → (Nat → Nat → Int32) → (Nat → Nat → Option Nat) → Prop}
theorem wl_400 (hL : L ≤ 400) (ha : a ≤ L) : wl T L a ≤ 400 := by
  have := wl_le (T := T) ha
  omega
theorem s1_needs {Q : List jH → (Nat → Nat → Int32) → (Nat → Nat → Option Nat) → Prop} (hk : k ≤ 64) (hX : jReg shX1 sh x) (hC : ConSh sh) (hS : ∀ sh', ConSh sh' → ∀ V R, StrG (mk sh' V R) k w) (hT : TxtC V (x + 109) T L) (ha : a ≤ L) (hc : 11 ≤ c) (hn : 2070 ≤ n) (hq : if isW w T L a = true then ∀ sh', Ext sh sh' → Q sh' (cx V (x + 109) (afW w T L a) (sk T L a) d) R else bC X sh V R (x + 109) (sk T L a)) : wX1_needs x sh (cx V (x + 109) a b d) R c n k Q X := by
  have h4 := wl_400 (T := T) hT.1 ha
  refine ⟨10, 2064, c - 10, n - 2064, by omega, by omega, s3_word (reg3 hX) hT ha (by decide) (by omega) (fun s1 q e1 w1 l1 => ⟨e1.reg hX, q, rfl, _, mk_atF w1.choose_spec.choose_spec.1, ?_⟩)⟩
  have hjq : jn ≤ q := w1.choose_spec.choose_spec.2.2.2.2.2.1
  refine s5_equals w1.g (hS s1 (e1.con hC) _ _) (Or.inr (Or.inl ⟨hjq, hk⟩)) ?_
  by_cases z : isW w T L a = true
  · rw [if_pos z] at hq
    rw [b2i_t (isW_at.mp z), ← afW_yes z]
    exact ⟨fun _ => hq s1 e1, fun q => absurd q (by decide)⟩
  · rw [if_neg z] at hq
    rw [b2i_f (fun q => z (isW_at.mpr q))]
    exact ⟨fun q => absurd rfl q, fun _ => s1_wrongT (r0 := 0) (e1.reg hX) (by omega) (by omega) (bC.ext hq e1)⟩
theorem s1_after {Q : Int32 → List jH → (Nat → Nat → Int32) → (Nat → Nat → Option Nat) → Prop} (hk : k ≤ 64) (hX : jReg shX1 sh x) (hC : ConSh sh) (hS : ∀ sh', ConSh sh' → ∀ V R, StrG (mk sh' V R) k w) (hT : TxtC V (x + 109) T L) (ha : a ≤ L) (hc : 12 ≤ c) (hn : 2076 ≤ n) (hq : pO (pAfter w lo hi T L a) (fun b => bC X sh V R (x + 109) b) (fun v e => ∀ sh' bg, Ext sh sh' → Q (nI v) sh' (cx V (x + 109) e bg d) R)) : wX1_after x sh (cx V (x + 109) a b d) R c n k lo hi Q X := by
  unfold pAfter at hq
  refine ⟨11, 2070, c - 11, n - 2070, by omega, by omega, s1_needs hk hX hC hS hT ha (by decide) (by decide) ?_⟩
  by_cases z : isW w T L a = true
  · rw [if_pos z] at hq ⊢
    intro s1 e1
    refine ⟨e1.reg hX, 1, 6, c - 12, n - 2076, by omega, by omega, s3_number (reg3 (e1.reg hX)) hT (afW_le ha) (by decide) (by decide) ?_⟩
    exact pO_mono hq (fun b h => bC.ext h e1) (fun v e h => ⟨e1.reg hX, h s1 _ e1⟩)
  · rw [if_neg z] at hq ⊢
    exact hq
theorem shlF : ∀ (u f : Fin 8), f.val ≤ u.val → ((1 : Int32) <<< ((nI u.val + (1 : Int32)) &&& 31)) - ((1 : Int32) <<< (nI f.val &&& 31)) = nI (2 ^ (u.val + 1) - 2 ^ f.val) := by decide +kernel
theorem s1_hoursTold {Q : Int32 → List jH → (Nat → Nat → Int32) → (Nat → Nat → Option Nat) → Prop} (hX : jReg shX1 sh x) (hC : ConSh sh) (hT : TxtC V (x + 109) T L) (ha : a ≤ L) (hc : 24 ≤ c) (hn : 4152 ≤ n) (hq : pO (pHours T L a) (fun b => bC X sh V R (x + 109) b) (fun v e => ∀ sh' bg, Ext sh sh' → Q (nI v) sh' (cx V (x + 109) e bg d) R)) : wX1_hoursTold x sh (cx V (x + 109) a b d) R c n Q X := by
  unfold pHours at hq
  refine ⟨12, 2076, c - 12, n - 2076, by omega, by omega, s1_after (w := tw 9) (by decide) hX hC (fun sh' h V R => str_9 h.g) hT ha (by decide) (by decide) (pO_mono (pO_and (pO_B hq) (pAfter_le ha)) (fun b h => h.1) (fun f a1 h s1 bg1 e1 => ⟨e1.reg hX, 12, 2076, 0, 0, by omega, by omega, ?_⟩))⟩
  have hf := h.2.2.2.2
  rw [show (7 : Int32) = nI 7 from rfl] at hf
  have hf7 : f ≤ 7 := Nat.not_lt.mp fun q => hf.2 (nI_lt q (by omega))
  have hq2 := h.1
  refine s1_after (w := tw 10) (by decide) (e1.reg hX) (e1.con hC) (fun sh' h V R => str_10 h.g) hT h.2.2.1 (by decide) (by decide) (pO_mono (pO_and (pO_B hq2) (pAfter_le h.2.2.1)) (fun b h2 => bC.ext h2.1 e1) (fun u a2 h2 s2 bg2 e2 => ⟨(e1.trans e2).reg hX, ?_⟩))
  have hu := h2.2.2.2.2
  rw [show (7 : Int32) = nI 7 from rfl] at hu
  have hu7 : u ≤ 7 := Nat.not_lt.mp fun q => hu.2 (nI_lt q (by omega))
  have huf : f ≤ u := Nat.not_lt.mp fun q => hu.1 (nI_lt q (by omega))
  have e9 := shlF ⟨u, by omega⟩ ⟨f, by omega⟩ huf
  simp only [] at e9
  rw [e9]
  exact h2.1 s2 bg2 (e1.trans e2)
/-- the letters of a word looked at one by one -/
theorem letZ_f {T : Nat → Nat} : ∀ (k i : Nat) (s : Int32), fo (fun i z => letS (T i) z) k i (false, s) = (false, s) := by
  intro k
  induction k with
  | zero => intro i s; rfl
  | succ k ih =>
    intro i s
    show fo (fun i z => letS (T i) z) k (i + 1) (letS (T i) (false, s)) = _
    rw [show letS (T i) (false, s) = (false, s) from if_neg (fun q => by cases q.1)]
    exact ih (i + 1) s
theorem let_bit2 : ∀ (r : Fin 64) (k : Fin 6), ∃ r2, 0 < r2 ∧ r2 < 64 ∧ nI r.val ||| ((1 : Int32) <<< (nI k.val &&& 31)) = nI r2 := by
  have h : ∀ (r : Fin 64) (k : Fin 6), 0 < (r.val ||| 2 ^ k.val) ∧ (r.val ||| 2 ^ k.val) < 64 ∧ nI r.val ||| ((1 : Int32) <<< (nI k.val &&& 31)) = nI (r.val ||| 2 ^ k.val) := by decide +kernel
  exact fun r k => ⟨_, h r k⟩
theorem s1_marksTold {Q : Int32 → List jH → (Nat → Nat → Int32) → (Nat → Nat → Option Nat) → Prop} (hX : jReg shX1 sh x) (hT : TxtC V (x + 109) T L) (ha : a ≤ L) (hc : 11 ≤ c) (hn : 2070 ≤ n) (hq : pO (pLet T L a) (fun b => bC X sh V R (x + 109) b) (fun s e => ∀ sh' bg, Ext sh sh' → Q s sh' (cx V (x + 109) e bg d) R)) : wX1_marksTold x sh (cx V (x + 109) a b d) R c n Q X := by
  have h4 := wl_400 (T := T) hT.1 ha
  have hL := hT.1
  have hs := sk_le (T := T) ha
  have hw := wd_le (T := T) hs
  have hwg : sk T L a ≤ wd T L (sk T L a) := wd_ge
  have hwl : wd T L (sk T L a) = sk T L a + wl T L a := by unfold wl; omega
  refine ⟨10, 2064, c - 10, n - 2064, by omega, by omega, s3_word (reg3 hX) hT ha (by decide) (by omega) (fun s1 q e1 w1 l1 => ⟨e1.reg hX, ?_⟩)⟩
  have hat : ∃ fs, (mk s1 (cx V (x + 109) (wd T L (sk T L a)) (sk T L a) d) R)[q]? = some (.inr (17, fs)) := ⟨_, mk_atF w1.choose_spec.choose_spec.1⟩
  have hg := w1.g (V := cx V (x + 109) (wd T L (sk T L a)) (sk T L a) d) (R := R)
  have hlen : (wAt T L a).length = wl T L a := wAt_len
  have bad : (letZ T L a).1 = false ∨ wl T L a = 0 → bC X s1 V R (x + 109) (sk T L a) := by
    intro h
    unfold pLet at hq
    rw [if_neg (fun q => by rcases h with h | h
                            · rw [h] at q; cases q.2
                            · omega)] at hq
    exact bC.ext hq e1
  have lp : ∀ u j (s : Int32) r, j + u = wl T L a → s = nI r → r < 64 → (0 < j → 0 < r) → fo (fun i z => letS (T i) z) u (sk T L a + j) (true, s) = letZ T L a → wX1_marksTold_12 x Q X (u + 1) s1 (cx V (x + 109) (wd T L (sk T L a)) (sk T L a) d) R (c - 10) (n - 2064) (some q) s (nI j) := by
    intro u
    induction u with
    | zero =>
      intro j s r hj hs0 hr hjr hz
      rw [wX1_marksTold_12]
      refine ⟨q, rfl, _, hat.choose_spec, s5_length hg ?_⟩
      rw [hlen]
      refine br_t (nI_le (by omega) (by omega)) ⟨fun z => ?_, fun z => ?_⟩
      · have hz1 : letZ T L a = (true, s) := hz.symm
        have hw0 : ¬ wl T L a = 0 := fun q2 => by
          have hj0 : j = 0 := by omega
          have h00 : fo (fun i z => letS (T i) z) 0 (sk T L a) (true, (0 : Int32)) = letZ T L a := by
            unfold letZ
            rw [hwl, q2, show sk T L a + 0 - sk T L a = 0 by omega]
          rw [hz1] at h00
          have : s = 0 := (congrArg Prod.snd h00).symm
          exact z this
        unfold pLet at hq
        rw [if_pos ⟨by omega, by rw [hz1]⟩] at hq
        have h5 : Q (letZ T L a).2 s1 (cx V (x + 109) (wd T L (sk T L a)) (sk T L a) d) R := hq s1 _ e1
        rw [hz1] at h5
        exact h5
      · refine s1_wrongT (r0 := 0) (e1.reg hX) (by omega) (by omega) (bad (Or.inr ?_))
        have hr0 : r = 0 := by
          rw [hs0] at z
          exact (nI_eq (b := 0) (by omega) (by decide)).mp z
        have : ¬ 0 < j := fun q2 => by have := hjr q2; omega
        omega
    | succ u ih =>
      intro j s r hj hs0 hr hjr hz
      rw [wX1_marksTold_12]
      have hjl : j < (wAt T L a).length := by omega
      refine ⟨q, rfl, _, hat.choose_spec, s5_length hg ?_⟩
      rw [hlen]
      refine br_f (nI_ge (by omega) (by omega)) ⟨_, hat.choose_spec, s5_charAt hg hjl ?_⟩
      have hbt := w1.choose_spec.choose_spec.2.2.2.2.1 j hjl
      rw [wAt_get (by omega)] at hbt ⊢
      have e97 : nI (T (sk T L a + j)) - (97 : Int32) = nI (T (sk T L a + j) - 97) := pk_sub (b := 97) hbt.1
      refine nm_r e97 (s1_in (p_bz ?_))
      have stop : ¬ (T (sk T L a + j) < 103 ∧ ¬ isOf s (nI (T (sk T L a + j) - 97))) → wX1_marksTold_49 x Q X s1 (cx V (x + 109) (wd T L (sk T L a)) (sk T L a) d) R (c - 10) (n - 2064) := by
        intro h
        refine s1_wrongT (r0 := 0) (e1.reg hX) (by omega) (by omega) (bad (Or.inl ?_))
        have h5 : fo (fun i z => letS (T i) z) u (sk T L a + j + 1) (letS (T (sk T L a + j)) (true, s)) = letZ T L a := hz
        rw [show letS (T (sk T L a + j)) (true, s) = (false, s) from if_neg (fun q2 => h q2.2), letZ_f] at h5
        rw [← h5]
      have hin : inI (nI (T (sk T L a + j) - 97)) 0 5 ↔ T (sk T L a + j) < 103 := by
        rw [show (5 : Int32) = nI 5 from rfl, inI_lit (by decide)]
        constructor
        · rintro ⟨k, hk1, hk2⟩
          have := (nI_eq (by omega) (by omega)).mp hk2
          omega
        · intro h
          exact ⟨_, by omega, rfl⟩
      split
      · next z1 =>
        have z2 := hin.mp z1
        refine s1_has (p_bz ?_)
        split
        · next z3 => exact stop (fun h => h.2 z3)
        · next z3 =>
          obtain ⟨r2, r20, r21, r22⟩ := let_bit2 ⟨r, hr⟩ ⟨T (sk T L a + j) - 97, by omega⟩
          have r23 : s ||| ((1 : Int32) <<< (nI (T (sk T L a + j) - 97) &&& 31)) = nI r2 := by rw [hs0]; exact r22
          refine nm_e (nm_r (nI_1 j) ?_)
          refine ih (j + 1) _ r2 (by omega) r23 r21 (fun _ => r20) ?_
          have h5 : fo (fun i z => letS (T i) z) u (sk T L a + j + 1) (letS (T (sk T L a + j)) (true, s)) = letZ T L a := hz
          rw [show letS (T (sk T L a + j)) (true, s) = (true, s ||| ((1 : Int32) <<< (nI (T (sk T L a + j) - 97) &&& 31))) from if_pos ⟨rfl, z2, z3⟩] at h5
          exact h5
      · next z1 => exact stop (fun h => z1 (hin.mpr h.1))
  exact ⟨_, lp (wl T L a) 0 0 0 (by omega) rfl (by decide) (fun h => absurd h (by decide)) (by
    unfold letZ
    rw [hwl, show sk T L a + wl T L a - sk T L a = wl T L a by omega]
    rfl)⟩
/-! ===== a word's hash ===== -/
def hsh (bs : List Nat) : Int32 := fo (fun i h => (31 : Int32) * h + nI (bs.getD i 0)) bs.length 0 0
/-- a word, its hash kept or not -/
def StrH (sh : List jH) (q : Nat) (bs : List Nat) : Prop := ∃ (q1 : Nat) (f : Nat → Int32) (fs : List Value), sh[q]? = some (jF (.inr (17, .ref q1 :: .int 0 :: fs))) ∧ sh[q1]? = some (jF (.inl (1, bs.length, .inl f))) ∧ (∀ i, i < bs.length → f i = nI (bs.getD i 0)) ∧ bs.length ≤ 400 ∧ (∀ i, i < bs.length → 97 ≤ bs.getD i 0 ∧ bs.getD i 0 ≤ 122) ∧ jn ≤ q
theorem StrH.g {q : Nat} (h : StrH sh q bs) {V : Nat → Nat → Int32} {R : Nat → Nat → Option Nat} : StrG (mk sh V R) q bs := by
  obtain ⟨q1, f, fs, h1, h2, h3, h4, h5, -⟩ := h
  exact ⟨q1, f, _, mk_atF h1, mk_atF h2, h3, by omega, fun i hi => by have := h5 i hi; omega⟩
theorem and255_n {n : Nat} (h : n < 256) : nI n &&& (255 : Int32) = nI n := by
  have : ∀ k : Fin 256, nI k.val &&& (255 : Int32) = nI k.val := by decide +kernel
  exact this ⟨n, h⟩
theorem s5_hashCode {Q : Int32 → List jC → Prop} {q : Nat} (h : StrW sh q bs) (hq : ∀ sh', StrH sh' q bs → (∀ j t, j ≠ q → sh[j]? = some t → sh'[j]? = some t) → Q (hsh bs) (mk sh' V R)) : wJ5_hashCode (mk sh V R) c n q Q := by
  have hg := h.g (V := V) (R := R)
  obtain ⟨q1, f, h1, h2, h3, h4, h5, h6, h7, h8⟩ := h
  refine ⟨_, mk_atF h1, 0, rfl, fun z => absurd rfl z, fun _ => ⟨_, mk_atF h1, 0, rfl, fun z => absurd rfl z, fun _ => ⟨_, mk_atF h1, s5_isLatin1 hg ⟨fun z => absurd z (by decide), fun _ => ⟨_, mk_atF h1, some q1, rfl, q1, rfl, c, n, 0, 0, by omega, by omega, ?_⟩⟩⟩⟩⟩
  have hl : jAl (mk sh V R) q1 (nI bs.length) := Or.inl ⟨h7, 1, _, by decide, mk_atF h2, rfl⟩
  have fin : wJ5_hashCode_40 q Q (mk sh V R) 0 0 (hsh bs) := by
    have f40 : ∀ (i : Nat) (v : Value), 2 ≤ i → i < 4 → Q (hsh bs) (mk (sh.set q (jF (.inr (17, ([.ref q1, .int 0, .int 0, .int 0] : List Value).set i v)))) V R) := by
      intro i v hi hi4
      refine hq _ ⟨q1, f, ([.int 0, .int 0] : List Value).set (i - 2) v, ?_, at_setN h2 h8, h3, h4, h5, h6⟩ (fun j t hj ht => at_setN ht (Ne.symm hj))
      rw [ats h1]
      obtain rfl | rfl : i = 2 ∨ i = 3 := by omega
      · rfl
      · rfl
    refine ⟨fun z => ⟨_, mk_atF h1, h6, by show 2 < 4; decide, ?_⟩, fun z => ⟨_, mk_atF h1, h6, by show 3 < 4; decide, ?_⟩⟩
    · rw [mk_setF h1]
      exact nm_e (f40 2 _ (by decide) (by decide))
    · rw [mk_setF h1]
      exact nm_e (f40 3 _ (by decide) (by decide))
  refine ⟨nI bs.length, hl, fun z => ?_, fun z => ⟨fun z1 => ?_, fun z1 => ⟨nI bs.length, hl, 0, 0, 0, 0, by omega, by omega, br_t rfl ⟨_, _, mk_atF h2, h7, ?_⟩⟩⟩⟩
  · have e : bs.length = 0 := (nI_eq (b := 0) (by omega) (by decide)).mp z
    have : hsh bs = 0 := by unfold hsh; rw [e]; rfl
    rw [this] at fin
    exact fin
  · have e : bs.length = 1 := (nI_eq (b := 1) (by omega) (by decide)).mp z1
    have hb := h5 0 (by omega)
    refine ⟨_, _, mk_atF h2, by rw [e]; exact (vp_in_nI (n := 0) (N := 1) (by decide) (by decide)), ?_⟩
    rw [show (0 : Int32).toNatClampNeg = 0 by decide, h3 0 (by omega), and255_n (by omega)]
    have : hsh bs = nI (bs.getD 0 0) := by
      unfold hsh
      rw [e]
      show (31 : Int32) * 0 + nI (bs.getD 0 0) = _
      simp
    rw [this] at fin
    exact fin
  · refine nm_r (e' := nI bs.length) (by rw [show (0 : Int32) = nI 0 from rfl, nI_add, Nat.zero_add]) ?_
    refine fo_loop (fun k a i => wJ7_signedHashCode_8 (mk sh V R) q1 (0 : Int32) (nI bs.length) (fun r => wJ5_hashCode_40 q Q (mk sh V R) 0 0 r) k a (nI bs.length) (nI i)) (fun i h => (31 : Int32) * h + nI (bs.getD i 0)) (fun a => wJ5_hashCode_40 q Q (mk sh V R) 0 0 a) bs.length ?_ ?_ bs.length 0 0 (Nat.zero_add _) fin
    · intro k a hP
      rw [wJ7_signedHashCode_8]
      exact br_t (Int32.le_refl _) hP
    · intro k a i hi hk
      rw [wJ7_signedHashCode_8]
      have hb := h5 i hi
      refine br_f (nI_ge hi (by omega)) ⟨_, _, mk_atF h2, vp_in_nI hi (by omega), ?_⟩
      rw [nI_clamp (by omega), h3 i hi, and255_n (by omega)]
      exact nm_e (nm_r (nI_1 i) hk)
end CG1
