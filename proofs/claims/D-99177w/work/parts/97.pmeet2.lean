/-! ===== PURE: meetings and taboo of the twin, taboo and meetsIn ===== -/
section MF
variable {sh : List jH} {V : Nat → Nat → Int32} {R : Nat → Nat → Option Nat} {x t : Nat} {m : Nat → Int32} {law : Option (List Ln)} {Q : Int32 → (Nat → Nat → Int32) → Prop}
theorem AskF.refl (h15 : jz (V t 15)) (h16 : jz (V t 16)) : AskF V t V := ⟨fun _ _ _ => rfl, fun _ _ => rfl, h15, h16⟩
theorem AskF.row {V V' : Nat → Nat → Int32} (h : AskF V t V') : V' (t + 1) = V (t + 1) := h.1 (t + 1) (by omega) (by omega)
theorem s1_taboo (hX : jReg shX1 sh x) (hW : WRel V (x + 1) m) (hR : RowOk m) (hL : LawSh sh (R (x + 1) 20) law) (hq : ∀ V', CF x V V' → Q (f_all (mT m law) m) V') : wX1_taboo x sh R V Q := by
  have hH := hR.H; have h8 := hR.H8; have g8 := hR.G8
  have dd : ∀ w, w = x + 1 → w + 36 ≤ x + 111 ∨ x + 112 ≤ w := fun w e => by omega
  refine ⟨_, vloop (fun n (b : (Nat → Nat → Int32) × Int32) i => wX1_taboo_4 x sh R Q n b.1 b.2 (nI i)) (fun i b => CF x V b.1 ∧ fo (fun h n => fo (mT m law h) 8 0 n) (nH m - i) i b.2 = f_all (mT m law) m) (nH m) ?_ ?_ (nH m) 0 (V, 0) (Nat.zero_add _) ⟨CF.refl, rfl⟩⟩
  · intro n b hI
    obtain ⟨h1, h2⟩ := hI
    show wX1_taboo_4 x sh R Q (n + 1) b.1 b.2 (nI (nH m))
    rw [fo_end] at h2
    rw [wX1_taboo_4, (h1.W hW (dd _ rfl) h8 g8).hosts, h2]
    exact br_t (by rw [hH]; exact Int32.le_refl _) (hq b.1 h1)
  · intro n b h hh hI hk
    obtain ⟨h1, h2⟩ := hI
    rw [fo_pop hh] at h2
    show wX1_taboo_4 x sh R Q (n + 1) b.1 b.2 (nI h)
    rw [wX1_taboo_4, (h1.W hW (dd _ rfl) h8 g8).hosts]
    refine br_f (by rw [hH]; exact nI_ge hh (by omega)) ⟨_, vloop (fun n2 (b : (Nat → Nat → Int32) × Int32) i => wX1_taboo_17 x sh R Q (fun V x1 x2 => wX1_taboo_4 x sh R Q n V x1 x2) n2 b.1 b.2 (nI h) (nI i)) (fun i b2 => CF x V b2.1 ∧ fo (mT m law h) (8 - i) i b2.2 = fo (mT m law h) 8 0 b.2) 8 ?_ ?_ 8 0 b (Nat.zero_add _) ⟨h1, rfl⟩⟩
    · intro n2 b2 hI2
      obtain ⟨i1, i2⟩ := hI2
      show wX1_taboo_17 x sh R Q (fun V x1 x2 => wX1_taboo_4 x sh R Q n V x1 x2) (n2 + 1) b2.1 b2.2 (nI h) (nI 8)
      rw [wX1_taboo_17]
      rw [fo_end] at i2
      exact br_t (by decide) (nm_r (nI_1 h) (hk (b2.1, b2.2) ⟨i1, by rw [← h2, ← i2]⟩))
    · intro n2 b2 q hq8 hI2 hk2
      obtain ⟨i1, i2⟩ := hI2
      rw [fo_pop hq8] at i2
      show wX1_taboo_17 x sh R Q (fun V x1 x2 => wX1_taboo_4 x sh R Q n V x1 x2) (n2 + 1) b2.1 b2.2 (nI h) (nI q)
      rw [wX1_taboo_17]
      have hW2 := i1.W hW (dd _ rfl) h8 g8
      have z0 : b2.2 + (0 : Int32) = b2.2 := by simp
      refine br_f (nI_ge hq8 (by decide)) ⟨in8 (by omega), in8 hq8, ?_⟩
      rw [cl8 (show h < 8 by omega), cl8 hq8, hW2.book hh hq8, z0]
      refine ⟨fun w => nm_e (nm_r (nI_1 q) (hk2 (b2.1, b2.2) ⟨i1, ?_⟩)), fun w => s1_wouldMeet hX hW2 hR hL hh hq8 (dd _ rfl) (fun V' f => p_bn ?_)⟩
      · rw [← i2]
        unfold mT
        rw [if_neg (fun z => z.1 w)]
      · split
        · next wd =>
          refine nm_e (nm_r (nI_1 q) (hk2 (V', b2.2) ⟨i1.trans f, ?_⟩))
          rw [← i2]
          unfold mT
          rw [if_neg (fun z => z.2 wd)]
        · next wd =>
          refine nm_e (nm_r (nI_1 q) (hk2 (V', b2.2 + 1) ⟨i1.trans f, ?_⟩))
          rw [← i2]
          unfold mT
          rw [if_pos ⟨w, wd⟩]
theorem s1_meetsIn {h : Nat} (hX : jReg shX1 sh x) (hW : WRel V (x + 1) m) (hR : RowOk m) (hL : LawSh sh (R (x + 1) 20) law) (hh : h < nH m) (hq : ∀ V', CF x V V' → Q (f_meetIn m law h) V') : wX1_meetsIn x sh R V (nI h) Q := by
  have hH := hR.H; have h8 := hR.H8; have g8 := hR.G8
  have dd : ∀ w, w = x + 1 → w + 36 ≤ x + 111 ∨ x + 112 ≤ w := fun w e => by omega
  refine ⟨_, vloop (fun n (b : (Nat → Nat → Int32) × Int32) i => wX1_meetsIn_4 x sh R (nI h) Q n b.1 b.2 (nI i)) (fun i b => CF x V b.1 ∧ fo (fun q a => if f_would m law h q = true then a ||| ((1 : Int32) <<< (nI q &&& 31)) else a) (8 - i) i b.2 = f_meetIn m law h) 8 ?_ ?_ 8 0 (V, 0) (Nat.zero_add _) ⟨CF.refl, rfl⟩⟩
  · intro n b hI
    obtain ⟨h1, h2⟩ := hI
    show wX1_meetsIn_4 x sh R (nI h) Q (n + 1) b.1 b.2 (nI 8)
    rw [fo_end] at h2
    rw [wX1_meetsIn_4, h2]
    exact br_t (by decide) (hq b.1 h1)
  · intro n b q hq8 hI hk
    obtain ⟨h1, h2⟩ := hI
    rw [fo_pop hq8] at h2
    show wX1_meetsIn_4 x sh R (nI h) Q (n + 1) b.1 b.2 (nI q)
    rw [wX1_meetsIn_4]
    refine br_f (nI_ge hq8 (by decide)) (s1_wouldMeet hX (h1.W hW (dd _ rfl) h8 g8) hR hL hh hq8 (dd _ rfl) (fun V' f => p_bz ?_))
    split
    · next wd =>
      rw [if_pos wd] at h2
      exact nm_e (nm_r (nI_1 q) (hk (V', _) ⟨h1.trans f, h2⟩))
    · next wd =>
      rw [if_neg wd] at h2
      refine nm_r (Int32.or_zero) (nm_r (nI_1 q) (hk (V', _) ⟨h1.trans f, h2⟩))
theorem s6_meetsIn {h : Nat} (hC : ConSh sh) (hR : RowOk (V (t + 1))) (hL : LawT (V (t + 1)) law) (h15 : jz (V t 15)) (h16 : jz (V t 16)) (hh : h < 8) (hq : ∀ V', AskF V t V' → Q (f_meetIn (V (t + 1)) law h) V') : wX6_meetsIn t sh R V (nI h) Q := by
  refine ⟨_, vloop (fun n (b : (Nat → Nat → Int32) × Int32) i => wX6_meetsIn_4 t sh R (nI h) Q n b.1 b.2 (nI i)) (fun i b => AskF V t b.1 ∧ fo (fun q a => if f_would (V (t + 1)) law h q = true then a ||| ((1 : Int32) <<< (nI q &&& 31)) else a) (8 - i) i b.2 = f_meetIn (V (t + 1)) law h) 8 ?_ ?_ 8 0 (V, 0) (Nat.zero_add _) ⟨AskF.refl h15 h16, rfl⟩⟩
  · intro n b hI
    obtain ⟨h1, h2⟩ := hI
    show wX6_meetsIn_4 t sh R (nI h) Q (n + 1) b.1 b.2 (nI 8)
    rw [fo_end] at h2
    rw [wX6_meetsIn_4, h2]
    exact br_t (by decide) (hq b.1 h1)
  · intro n b q hq8 hI hk
    obtain ⟨h1, h2⟩ := hI
    rw [fo_pop hq8] at h2
    show wX6_meetsIn_4 t sh R (nI h) Q (n + 1) b.1 b.2 (nI q)
    rw [wX6_meetsIn_4]
    have er := h1.row
    refine br_f (nI_ge hq8 (by decide)) (s6_wouldMeet hC (by rw [er]; exact hR) (by rw [er]; exact hL) h1.2.2.1 h1.2.2.2 hh hq8 (fun V' f _ => ?_))
    rw [er]
    refine p_bz ?_
    split
    · next wd =>
      rw [if_pos wd] at h2
      exact nm_e (nm_r (nI_1 q) (hk (V', _) ⟨h1.trans f, h2⟩))
    · next wd =>
      rw [if_neg wd] at h2
      exact nm_r (Int32.or_zero) (nm_r (nI_1 q) (hk (V', _) ⟨h1.trans f, h2⟩))
theorem s6_taboo (hC : ConSh sh) (hR : RowOk (V (t + 1))) (hL : LawT (V (t + 1)) law) (h15 : jz (V t 15)) (h16 : jz (V t 16)) (hq : ∀ V', AskF (vset V t 0 0) t V' → Q (f_all (mT (V (t + 1)) law) (V (t + 1))) V') : wX6_taboo t sh R V Q := by
  have hH := hR.H; have h8 := hR.H8
  have e0 : vset V t 0 0 (t + 1) = V (t + 1) := vt1
  have a0 : AskF (vset V t 0 0) t (vset V t 0 0) := AskF.refl (by rw [vset_at]; exact h15) (by rw [vset_at]; exact h16)
  obtain ⟨m, hm⟩ : ∃ m, m = V (t + 1) := ⟨_, rfl⟩
  rw [← hm] at hR hL hq e0 hH h8
  refine ⟨_, vloop (fun n (b : (Nat → Nat → Int32) × Int32) i => wX6_taboo_9 t sh R Q n b.1 b.2 (nI i)) (fun i b => AskF (vset V t 0 0) t b.1 ∧ fo (fun h n => fo (mT m law h) 8 0 n) (nH m - i) i b.2 = f_all (mT m law) m) (nH m) ?_ ?_ (nH m) 0 (_, 0) (Nat.zero_add _) ⟨a0, rfl⟩⟩
  · intro n b hI
    obtain ⟨h1, h2⟩ := hI
    show wX6_taboo_9 t sh R Q (n + 1) b.1 b.2 (nI (nH m))
    rw [fo_end] at h2
    rw [wX6_taboo_9, h1.row, e0, h2]
    exact br_t (by rw [hH]; exact Int32.le_refl _) (hq b.1 h1)
  · intro n b h hh hI hk
    obtain ⟨h1, h2⟩ := hI
    rw [fo_pop hh] at h2
    show wX6_taboo_9 t sh R Q (n + 1) b.1 b.2 (nI h)
    rw [wX6_taboo_9, h1.row, e0]
    refine br_f (by rw [hH]; exact nI_ge hh (by omega)) ⟨_, vloop (fun n2 (b : (Nat → Nat → Int32) × Int32) i => wX6_taboo_21 t sh R Q (fun V x1 x2 => wX6_taboo_9 t sh R Q n V x1 x2) n2 b.1 b.2 (nI h) (nI i)) (fun i b2 => AskF (vset V t 0 0) t b2.1 ∧ fo (mT m law h) (8 - i) i b2.2 = fo (mT m law h) 8 0 b.2) 8 ?_ ?_ 8 0 b (Nat.zero_add _) ⟨h1, rfl⟩⟩
    · intro n2 b2 hI2
      obtain ⟨i1, i2⟩ := hI2
      show wX6_taboo_21 t sh R Q (fun V x1 x2 => wX6_taboo_9 t sh R Q n V x1 x2) (n2 + 1) b2.1 b2.2 (nI h) (nI 8)
      rw [wX6_taboo_21]
      rw [fo_end] at i2
      exact br_t (by decide) (nm_r (nI_1 h) (hk (b2.1, b2.2) ⟨i1, by rw [← h2, ← i2]⟩))
    · intro n2 b2 q hq8 hI2 hk2
      obtain ⟨i1, i2⟩ := hI2
      rw [fo_pop hq8] at i2
      show wX6_taboo_21 t sh R Q (fun V x1 x2 => wX6_taboo_9 t sh R Q n V x1 x2) (n2 + 1) b2.1 b2.2 (nI h) (nI q)
      rw [wX6_taboo_21]
      have er : b2.1 (t + 1) = m := i1.row.trans e0
      have z0 : b2.2 + (0 : Int32) = b2.2 := by simp
      refine br_f (nI_ge hq8 (by decide)) (s6_bookedIn (by omega) hq8 ?_)
      rw [er, z0]
      refine ⟨fun w => nm_e (nm_r (nI_1 q) (hk2 (b2.1, b2.2) ⟨i1, ?_⟩)), fun w => s6_wouldMeet hC (by rw [er]; exact hR) (by rw [er]; exact hL) i1.2.2.1 i1.2.2.2 (by omega) hq8 (fun V' f _ => ?_)⟩
      · rw [← i2]
        unfold mT
        rw [if_neg (fun z => z.1 w)]
      · rw [er]
        refine p_bn ?_
        split
        · next wd =>
          refine nm_e (nm_r (nI_1 q) (hk2 (V', b2.2) ⟨i1.trans f, ?_⟩))
          rw [← i2]
          unfold mT
          rw [if_neg (fun z => z.2 wd)]
        · next wd =>
          refine nm_e (nm_r (nI_1 q) (hk2 (V', b2.2 + 1) ⟨i1.trans f, ?_⟩))
          rw [← i2]
          unfold mT
          rw [if_pos ⟨w, wd⟩]
theorem s6_meetings {a : Int32} (hC : ConSh sh) (hR : RowOk (V (t + 1))) (hL : LawT (V (t + 1)) law) (h15 : jz (V t 15)) (h16 : jz (V t 16)) (hq : ∀ V', AskF (vset V t 0 0) t V' → Q (if a = 0 then f_all (mN (V (t + 1)) law) (V (t + 1)) else f_all (mJ (V (t + 1)) law) (V (t + 1))) V') : wX6_meetings t sh R V a Q := by
  have hH := hR.H; have h8 := hR.H8
  have e0 : vset V t 0 0 (t + 1) = V (t + 1) := vt1
  have a0 : AskF (vset V t 0 0) t (vset V t 0 0) := AskF.refl (by rw [vset_at]; exact h15) (by rw [vset_at]; exact h16)
  obtain ⟨m, hm⟩ : ∃ m, m = V (t + 1) := ⟨_, rfl⟩
  rw [← hm] at hR hL hq e0 hH h8
  obtain ⟨st, hst⟩ : ∃ st : Nat → Nat → Int32 → Int32, st = (fun h q n => if a = 0 then mN m law h q n else mJ m law h q n) := ⟨_, rfl⟩
  have hq2 : ∀ V', AskF (vset V t 0 0) t V' → Q (f_all st m) V' := fun V' hV => by
    have := hq V' hV
    rw [hst]
    split at this
    · next z => rw [show (fun h q n => if a = 0 then mN m law h q n else mJ m law h q n) = mN m law by funext h q n; exact if_pos z]; exact this
    · next z => rw [show (fun h q n => if a = 0 then mN m law h q n else mJ m law h q n) = mJ m law by funext h q n; exact if_neg z]; exact this
  refine ⟨_, vloop (fun n (b : (Nat → Nat → Int32) × Int32) i => wX6_meetings_9 t sh R a Q n b.1 b.2 (nI i)) (fun i b => AskF (vset V t 0 0) t b.1 ∧ fo (fun h n => fo (st h) 8 0 n) (nH m - i) i b.2 = f_all st m) (nH m) ?_ ?_ (nH m) 0 (_, 0) (Nat.zero_add _) ⟨a0, rfl⟩⟩
  · intro n b hI
    obtain ⟨h1, h2⟩ := hI
    show wX6_meetings_9 t sh R a Q (n + 1) b.1 b.2 (nI (nH m))
    rw [fo_end] at h2
    rw [wX6_meetings_9, h1.row, e0, h2]
    exact br_t (by rw [hH]; exact Int32.le_refl _) (hq2 b.1 h1)
  · intro n b h hh hI hk
    obtain ⟨h1, h2⟩ := hI
    rw [fo_pop hh] at h2
    show wX6_meetings_9 t sh R a Q (n + 1) b.1 b.2 (nI h)
    rw [wX6_meetings_9, h1.row, e0]
    refine br_f (by rw [hH]; exact nI_ge hh (by omega)) ⟨_, vloop (fun n2 (b : (Nat → Nat → Int32) × Int32) i => wX6_meetings_22 t sh R a Q (fun V x2 x3 => wX6_meetings_9 t sh R a Q n V x2 x3) n2 b.1 b.2 (nI h) (nI i)) (fun i b2 => AskF (vset V t 0 0) t b2.1 ∧ fo (st h) (8 - i) i b2.2 = fo (st h) 8 0 b.2) 8 ?_ ?_ 8 0 b (Nat.zero_add _) ⟨h1, rfl⟩⟩
    · intro n2 b2 hI2
      obtain ⟨i1, i2⟩ := hI2
      show wX6_meetings_22 t sh R a Q (fun V x2 x3 => wX6_meetings_9 t sh R a Q n V x2 x3) (n2 + 1) b2.1 b2.2 (nI h) (nI 8)
      rw [wX6_meetings_22]
      rw [fo_end] at i2
      exact br_t (by decide) (nm_r (nI_1 h) (hk (b2.1, b2.2) ⟨i1, by rw [← h2, ← i2]⟩))
    · intro n2 b2 q hq8 hI2 hk2
      obtain ⟨i1, i2⟩ := hI2
      rw [fo_pop hq8] at i2
      show wX6_meetings_22 t sh R a Q (fun V x2 x3 => wX6_meetings_9 t sh R a Q n V x2 x3) (n2 + 1) b2.1 b2.2 (nI h) (nI q)
      rw [wX6_meetings_22]
      have er : b2.1 (t + 1) = m := i1.row.trans e0
      have z0 : b2.2 + (0 : Int32) = b2.2 := by simp
      refine br_f (nI_ge hq8 (by decide)) (s6_wouldMeet hC (by rw [er]; exact hR) (by rw [er]; exact hL) i1.2.2.1 i1.2.2.2 (by omega) hq8 (fun V' f _ => ?_))
      rw [er]
      refine p_bn ?_
      have f2 := i1.trans f
      have er2 : V' (t + 1) = m := f2.row.trans e0
      split
      · next w =>
        have hg := would_g hR (by omega) hq8 w
        refine ⟨fun za => nm_e (nm_r (nI_1 q) (hk2 (V', _) ⟨f2, ?_⟩)), fun za => s6_bookedIn (by omega) hq8 ?_⟩
        · rw [← i2, hst]
          show _ = fo _ _ _ (if a = 0 then mN m law h q b2.2 else mJ m law h q b2.2)
          rw [if_pos za]
          unfold mN
          rw [if_pos w]
        · rw [er2, hg.2]
          refine s6_joyOf hC (by rw [er2]; exact hR) (by rw [er2]; exact hL) f2.2.2.2 (by omega) (by have := hR.G8; omega) hq8 (fun V2 f3 => nm_e (nm_r (nI_1 q) (hk2 (V2, _) ⟨f2.trans f3, ?_⟩)))
          rw [← i2, hst, er2]
          show _ = fo _ _ _ (if a = 0 then mN m law h q b2.2 else mJ m law h q b2.2)
          rw [if_neg za]
          unfold mJ
          rw [if_pos w]
      · next w =>
        refine nm_r z0 (nm_r (nI_1 q) (hk2 (V', _) ⟨f2, ?_⟩))
        rw [← i2, hst]
        show _ = fo _ _ _ (if a = 0 then mN m law h q b2.2 else mJ m law h q b2.2)
        split
        · unfold mN; rw [if_neg w]
        · unfold mJ; rw [if_neg w]
end MF
