/-! ===== PURE: dry, on both sides ===== -/
/-- what a question of the twin may change at most -/
def TsF (V : Nat → Nat → Int32) (t : Nat) (V' : Nat → Nat → Int32) : Prop := (∀ b, b ≠ t → b ≠ t + 3 → (b < t + 6 ∨ t + 14 ≤ b) → V' b = V b) ∧ (∀ j, j < 9 ∨ j = 12 → V' t j = V t j) ∧ jz (V' t 15) ∧ jz (V' t 16)
def dryOk (m : Nat → Int32) (law : Option (List Ln)) (c : Int32) : Bool := allB (fun h => decide (f_meetIn m law h = 0 ∨ ¬ (f_meetIn m law h &&& c) = 0)) (nH m) 0
def dryB (best : Int32) (i : Nat) : Bool := decide (best = -1 ∨ pc i < pc best.toNatClampNeg)
def dryS (m : Nat → Int32) (law : Option (List Ln)) (i : Nat) (best : Int32) : Int32 := if (dryB best i && dryOk m law (nI i)) = true then nI i else best
def f_dry (m : Nat → Int32) (law : Option (List Ln)) : Int32 := fo (dryS m law) 256 0 (-1)
section DR
variable {sh : List jH} {V : Nat → Nat → Int32} {R : Nat → Nat → Option Nat} {x t : Nat} {m : Nat → Int32} {law : Option (List Ln)} {Q : Int32 → (Nat → Nat → Int32) → Prop}
theorem TsF.q {V1 : Nat → Nat → Int32} (h : TqF V t V1) : TsF V t V1 := ⟨fun b h1 h3 h6 => h.1 b h1 h3 (by omega), h.2⟩
theorem TsF.row {V1 : Nat → Nat → Int32} (h : TsF V t V1) : V1 (t + 1) = V (t + 1) := h.1 _ (by omega) (by omega) (by omega)
theorem pc_lt : ∀ i : Fin 256, pc i.val < 16 := by decide +kernel
/-- best is none, or a set -/
def bestOk (b : Int32) : Prop := b = -1 ∨ ∃ k, k < 256 ∧ b = nI k
theorem dryS_ok {i : Nat} {b : Int32} (hi : i < 256) (hb : bestOk b) : bestOk (dryS m law i b) := by
  unfold dryS
  split
  · exact Or.inr ⟨i, hi, rfl⟩
  · exact hb
theorem dry_bits {b : Int32} {i : Nat} {A B : Prop} (hi : i < 256) (hb : bestOk b) (h1 : ¬ b = -1) (h : if dryB b i = true then B else A) : (nI (pc b.toNatClampNeg) ≤ nI (pc i) → A) ∧ (¬ nI (pc b.toNatClampNeg) ≤ nI (pc i) → B) := by
  obtain rfl | ⟨k, hk, rfl⟩ := hb
  · exact absurd rfl h1
  · rw [nI_clamp (by omega)]
    have p1 := pc_lt ⟨k, hk⟩
    have p2 := pc_lt ⟨i, hi⟩
    have e : dryB (nI k) i = true ↔ pc i < pc k := by
      unfold dryB
      rw [decide_eq_true_iff, nI_clamp (by omega)]
      exact ⟨fun z => z.elim (fun q => absurd q h1) id, Or.inr⟩
    rw [nI_leI (by simp only [] at p1; omega) (by simp only [] at p2; omega)]
    refine ⟨fun z => ?_, fun z => ?_⟩
    · rw [if_neg (fun q => absurd (e.1 q) (by omega))] at h; exact h
    · rw [if_pos (e.2 (by omega))] at h; exact h
theorem s1_allMeet {c : Int32} (hX : jReg shX1 sh x) (hW : WRel V (x + 1) m) (hR : RowOk m) (hL : LawSh sh (R (x + 1) 20) law) (hq : ∀ V', CF x V V' → Q (b2i (dryOk m law c = true)) V') : wX1_allMeet x sh R V c Q := by
  have hH := hR.H; have h8 := hR.H8; have g8 := hR.G8
  have dd : x + 1 + 36 ≤ x + 111 ∨ x + 112 ≤ x + 1 := by omega
  refine ⟨_, vloop (fun n (b : Nat → Nat → Int32) i => wX1_allMeet_2 x sh R c Q n b (nI i)) (fun i b => CF x V b ∧ allB (fun h => decide (f_meetIn m law h = 0 ∨ ¬ (f_meetIn m law h &&& c) = 0)) (nH m - i) i = dryOk m law c) (nH m) ?_ ?_ (nH m) 0 V (Nat.zero_add _) ⟨CF.refl, rfl⟩⟩
  · intro n b hI
    obtain ⟨h1, h2⟩ := hI
    show wX1_allMeet_2 x sh R c Q (n + 1) b (nI (nH m))
    rw [wX1_allMeet_2, (h1.W hW dd h8 g8).hosts]
    refine br_t (by rw [hH]; exact Int32.le_refl _) ?_
    have := hq b h1
    rw [← h2, Nat.sub_self] at this
    exact this
  · intro n b h hh hI hk
    obtain ⟨h1, h2⟩ := hI
    show wX1_allMeet_2 x sh R c Q (n + 1) b (nI h)
    rw [wX1_allMeet_2, (h1.W hW dd h8 g8).hosts]
    obtain ⟨k, hk2⟩ : ∃ k, nH m - h = k + 1 := ⟨nH m - h - 1, by omega⟩
    rw [hk2] at h2
    have h2 : (decide (f_meetIn m law h = 0 ∨ ¬ (f_meetIn m law h &&& c) = 0) && allB (fun h => decide (f_meetIn m law h = 0 ∨ ¬ (f_meetIn m law h &&& c) = 0)) k (h + 1)) = dryOk m law c := h2
    refine br_f (by rw [hH]; exact nI_ge hh (by omega)) (s1_meetsIn hX (h1.W hW dd h8 g8) hR hL hh (fun V2 f2 => ⟨fun z => ?_, fun z => ?_⟩))
    · refine nm_r (nI_1 h) (hk V2 ⟨h1.trans f2, ?_⟩)
      rw [decide_eq_true (Or.inl z), Bool.true_and] at h2
      rw [show nH m - (h + 1) = k by omega]
      exact h2
    · refine s1_meetsIn hX ((h1.trans f2).W hW dd h8 g8) hR hL hh (fun V3 f3 => ⟨fun z2 => ?_, fun z2 => ?_⟩)
      · refine nm_r (nI_1 h) (hk V3 ⟨(h1.trans f2).trans f3, ?_⟩)
        rw [decide_eq_true (Or.inr z2), Bool.true_and] at h2
        rw [show nH m - (h + 1) = k by omega]
        exact h2
      · have := hq V3 ((h1.trans f2).trans f3)
        rw [decide_eq_false (fun q => q.elim z (fun q2 => q2 z2)), Bool.false_and] at h2
        rw [← h2] at this
        exact this
theorem s1_dry (hX : jReg shX1 sh x) (hW : WRel V (x + 1) m) (hR : RowOk m) (hL : LawSh sh (R (x + 1) 20) law) (hq : ∀ V', CF x V V' → Q (f_dry m law) V') : wX1_dry x sh R V Q := by
  have h8 := hR.H8; have g8 := hR.G8
  have dd : x + 1 + 36 ≤ x + 111 ∨ x + 112 ≤ x + 1 := by omega
  refine ⟨_, vloop (fun n (b : (Nat → Nat → Int32) × Int32) i => wX1_dry_4 x sh R Q n b.1 b.2 (nI i)) (fun i b => CF x V b.1 ∧ bestOk b.2 ∧ fo (dryS m law) (256 - i) i b.2 = f_dry m law) 256 ?_ ?_ 256 0 (V, (-1 : Int32)) (Nat.zero_add _) ⟨CF.refl, Or.inl rfl, rfl⟩⟩
  · intro n b hI
    obtain ⟨h1, h2, h3⟩ := hI
    show wX1_dry_4 x sh R Q (n + 1) b.1 b.2 (nI 256)
    rw [fo_end] at h3
    rw [wX1_dry_4, h3]
    exact br_t (by decide) (hq b.1 h1)
  · intro n b i hi hI hk
    obtain ⟨b, r⟩ := b
    obtain ⟨h1, h2, h3⟩ := hI
    have h2 : bestOk r := h2
    have h1 : CF x V b := h1
    rw [fo_pop hi] at h3
    show wX1_dry_4 x sh R Q (n + 1) b r (nI i)
    rw [wX1_dry_4]
    refine br_f (nI_ge hi (by decide)) ?_
    have k2 : ∀ b', CF x V b' → ∀ r', r' = dryS m law i r → wX1_dry_4 x sh R Q n b' r' (nI (i + 1)) := fun b' f r' hr => by
      refine hk (b', r') ⟨f, ?_, ?_⟩
      · show bestOk r'
        rw [hr]; exact dryS_ok hi h2
      · show fo (dryS m law) _ _ r' = _
        rw [hr]; exact h3
    have k3 : dryB r i = true → wX1_dry_27 x sh R Q (fun V x1 x2 => wX1_dry_4 x sh R Q n V x1 x2) b r (nI i) := fun hb => by
      unfold wX1_dry_27
      refine s1_allMeet hX (h1.W hW dd h8 g8) hR hL (fun V2 f2 => p_bz ?_)
      have ed : dryS m law i r = if dryOk m law (nI i) = true then nI i else r := by
        unfold dryS
        rw [hb, Bool.true_and]
      split
      · next z =>
        refine nm_r (nI_1 i) (k2 V2 (h1.trans f2) _ ?_)
        rw [ed, if_pos z]
      · next z =>
        refine nm_r (nI_1 i) (k2 V2 (h1.trans f2) _ ?_)
        rw [ed, if_neg z]
    refine ⟨fun z => k3 (decide_eq_true (Or.inl z)), fun z => ?_⟩
    refine s_bitCount (by omega) ?_
    obtain rfl | ⟨k, hkk, rfl⟩ := h2
    · exact absurd rfl z
    · refine s_bitCount (by omega) ?_
      have := dry_bits (b := nI k) (A := ∀ y37 : Int32, y37 = nI i + (1 : Int32) → wX1_dry_4 x sh R Q n b (nI k) y37) (B := wX1_dry_27 x sh R Q (fun V x1 x2 => wX1_dry_4 x sh R Q n V x1 x2) b (nI k) (nI i)) hi (Or.inr ⟨k, hkk, rfl⟩) z ?_
      · rw [nI_clamp (by omega)] at this
        exact this
      · split
        · next z2 => exact k3 z2
        · next z2 =>
          refine nm_r (nI_1 i) (k2 b h1 _ ?_)
          unfold dryS
          rw [if_neg (by rw [Bool.and_eq_true]; exact fun q => z2 q.1)]
theorem s6_dry (hC : ConSh sh) (hR : RowOk (V (t + 1))) (hL : LawT (V (t + 1)) law) (h15 : jz (V t 15)) (h16 : jz (V t 16)) (hq : ∀ V', TsF (vset V t 0 0) t V' → Q (f_dry (V (t + 1)) law) V') : wX6_dry t sh R V Q := by
  have e1 : vset V t 0 0 (t + 1) = V (t + 1) := vt1
  unfold wX6_dry
  rw [← e1] at hR hL hq
  have h15 : jz (vset V t 0 0 t 15) := jzk0 (by decide) h15
  have h16 : jz (vset V t 0 0 t 16) := jzk0 (by decide) h16
  clear e1
  generalize vset V t 0 0 = V1 at *
  have hH := hR.H; have h8 := hR.H8
  obtain ⟨m, hm⟩ : ∃ m, m = V1 (t + 1) := ⟨_, rfl⟩
  rw [← hm] at hR hL hq hH h8
  refine ⟨_, vloop (fun n (b : Nat → Nat → Int32) i => wX6_dry_7 t sh R Q n b (nI i)) (fun i b => (TsF V1 t b) ∧ ∀ j, j < i → b (t + 10) j = f_meetIn m law j) (nH m) ?_ ?_ (nH m) 0 V1 (Nat.zero_add _) ⟨⟨fun _ _ _ _ => rfl, fun _ _ => rfl, h15, h16⟩, fun j hj => absurd hj (by omega)⟩⟩
  · intro n c hI
    obtain ⟨f1, f2⟩ := hI
    have er : c (t + 1) = m := by rw [hm]; exact f1.row
    show wX6_dry_7 t sh R Q (n + 1) c (nI (nH m))
    rw [wX6_dry_7, er]
    refine br_t (by rw [hH]; exact Int32.le_refl _) ?_
    refine ⟨_, vloop (fun n (b : Int32) i => wX6_dry_38 t sh R Q n c b (nI i)) (fun i b => bestOk b ∧ fo (dryS m law) (256 - i) i b = f_dry m law) 256 ?_ ?_ 256 0 (-1 : Int32) (Nat.zero_add _) ⟨Or.inl rfl, rfl⟩⟩
    · intro n b hI
      obtain ⟨g1, g2⟩ := hI
      show wX6_dry_38 t sh R Q (n + 1) c b (nI 256)
      rw [fo_end] at g2
      rw [wX6_dry_38, g2]
      exact br_t (by decide) (hq c f1)
    · intro n r i hi hI hk
      obtain ⟨g1, g2⟩ := hI
      rw [fo_pop hi] at g2
      show wX6_dry_38 t sh R Q (n + 1) c r (nI i)
      rw [wX6_dry_38]
      refine br_f (nI_ge hi (by decide)) ?_
      have k2 : ∀ r', r' = dryS m law i r → wX6_dry_38 t sh R Q n c r' (nI (i + 1)) := fun r' hr => hk r' ⟨by rw [hr]; exact dryS_ok hi g1, by rw [hr]; exact g2⟩
      have k3 : ∃ f9, wX6_dry_70 t sh R Q (fun V x1 x2 => wX6_dry_38 t sh R Q n V x1 x2) f9 c r (nI i) (b2i (dryB r i = true)) 0 := by
        refine flag_loop (fun n2 b j => wX6_dry_70 t sh R Q (fun V x1 x2 => wX6_dry_38 t sh R Q n V x1 x2) n2 c r (nI i) (b2i (b = true)) (nI j)) (fun h => decide (f_meetIn m law h = 0 ∨ ¬ (f_meetIn m law h &&& nI i) = 0)) (fun b => wX6_dry_119 t sh R Q (fun V x1 x2 => wX6_dry_38 t sh R Q n V x1 x2) c r (nI i) (b2i (b = true))) (nH m) ?_ ?_ ?_ (nH m) 0 (dryB r i) (Nat.zero_add _) ?_
        · intro n2 b hP
          rw [wX6_dry_70, er]
          exact br_t (by rw [hH]; exact Int32.le_refl _) hP
        · intro n2 j hj hP
          rw [wX6_dry_70, er]
          refine br_f (by rw [hH]; exact nI_ge hj (by omega)) ?_
          rw [b2i_f (by decide)] at hP ⊢
          exact ⟨fun _ => hP, fun z => absurd rfl z⟩
        · intro n2 j hj hk3
          rw [wX6_dry_70, er]
          refine br_f (by rw [hH]; exact nI_ge hj (by omega)) ?_
          rw [b2i_t rfl]
          refine ⟨fun z => absurd z (by decide), fun _ => ⟨vp_in_nI (by omega) (by decide), ?_⟩⟩
          rw [nI_clamp (by omega), f2 j hj]
          refine ⟨fun z => ?_, fun z => ⟨vp_in_nI (by omega) (by decide), fun z2 => ?_, fun z2 => ?_⟩⟩
          · rw [decide_eq_true (Or.inl z), b2i_t rfl] at hk3
            exact nm_r (nI_1 j) hk3
          · rw [decide_eq_false (fun q => q.elim z (fun q2 => q2 z2)), b2i_f (by decide)] at hk3
            exact nm_r (nI_1 j) hk3
          · rw [decide_eq_true (Or.inr z2), b2i_t rfl] at hk3
            exact nm_r (nI_1 j) hk3
        · unfold wX6_dry_119
          refine p_bz ?_
          split
          · next z =>
            refine nm_r (nI_1 i) (k2 _ ?_)
            unfold dryS dryOk
            rw [if_pos z]
          · next z =>
            refine nm_r (nI_1 i) (k2 _ ?_)
            unfold dryS dryOk
            rw [if_neg z]
      refine ⟨fun z => ?_, fun z => ?_⟩
      · rw [b2i_t (show dryB r i = true from decide_eq_true (Or.inl z))] at k3
        exact k3
      · refine s6_bits (by omega) ?_
        have g0 := g1
        obtain rfl | ⟨k, hkk, rfl⟩ := g1
        · exact absurd rfl z
        · refine s6_bits (by omega) ?_
          have := dry_bits (b := nI k) (A := ∃ f9, wX6_dry_70 t sh R Q (fun V x1 x2 => wX6_dry_38 t sh R Q n V x1 x2) f9 c (nI k) (nI i) 0 0) (B := ∃ f9, wX6_dry_70 t sh R Q (fun V x1 x2 => wX6_dry_38 t sh R Q n V x1 x2) f9 c (nI k) (nI i) 1 0) hi g0 z ?_
          · rw [nI_clamp (by omega)] at this
            exact this
          · split
            · next z2 => rw [b2i_t z2] at k3; exact k3
            · next z2 => rw [b2i_f z2] at k3; exact k3
  · intro n c i hi hI hk
    obtain ⟨f1, f2⟩ := hI
    have er : c (t + 1) = m := by rw [hm]; exact f1.row
    show wX6_dry_7 t sh R Q (n + 1) c (nI i)
    rw [wX6_dry_7, er]
    refine br_f (by rw [hH]; exact nI_ge hi (by omega)) ?_
    refine s6_meetsIn (law := law) hC (by rw [er]; exact hR) (by rw [er]; exact hL) f1.2.2.1 f1.2.2.2 (by omega) (fun c2 a2 => ?_)
    rw [er, nI_clamp (by omega)]
    refine ⟨vp_in_nI (by omega) (by decide), nm_r (nI_1 i) (hk _ ⟨⟨fun b b1 b2 b3 => ?_, fun j hj => ?_, ?_, ?_⟩, fun j hj => ?_⟩)⟩
    · rw [vset_n _ _ _ (by omega), a2.1 b b1 (by omega)]; exact f1.1 b b1 b2 b3
    · rw [vset_n _ _ _ (by omega), a2.2.1 j (by omega)]; exact f1.2.1 j hj
    · rw [vset_n _ _ _ (by omega)]; exact a2.2.2.1
    · rw [vset_n _ _ _ (by omega)]; exact a2.2.2.2
    · rw [vset_at]
      split
      · next z => rw [z]
      · next z => rw [a2.1 (t + 10) (by omega) (by omega)]; exact f2 j (by omega)
end DR
