/-! ===== PURE: ranks, and a whole line of the ground, in the component ===== -/
section CG3
variable {sh sh1 : List jH} {V V1 V' : Nat → Nat → Int32} {R : Nat → Nat → Option Nat} {x w a b d L c n k p hr : Nat} {T : Nat → Nat} {m : Row} {X : String → List jH → (Nat → Nat → Int32) → (Nat → Nat → Option Nat) → Prop} {Q : List jH → (Nat → Nat → Int32) → (Nat → Nat → Option Nat) → Prop}
theorem s1_ranks {p1 N : Nat} (hX : jReg shX1 sh x) (hT : TxtC V (x + 109) T L) (hp1 : sh[p1]? = some (.inr (.inl (0, 8)))) (hj1 : jn ≤ p1) (hpr : x + 37 ≤ p1 ∧ p1 < x + 73) (hN : N ≤ 8) (ha : a ≤ L) (hc : 1 ≤ c) (hn : 6 ≤ n) (hq : if fg T L (sk T L a) = sk T L a + N then ∀ V', (∀ b, b ≠ p1 → V' b = V b) → (∀ j, V' p1 j = if j < N then nI (T (sk T L a + j)) - 48 else V p1 j) → Q sh (cx V' (x + 109) (fg T L (sk T L a)) (sk T L a) 0) R else gB X sh V R x (sk T L a)) : wX1_ranks x p1 sh (cx V (x + 109) a b 0) R c n (nI N) Q X := by
  have hL := hT.1
  have hs := sk_le (T := T) ha
  refine s3_blanks hT (by omega) ?_
  have hfl := fg_le (T := T) hs
  have hfg := fg_ge (T := T) (L := L) (a := sk T L a)
  generalize sk T L a = s at *
  have TW : ∀ W : Nat → Nat → Int32, (∀ b, b ≠ p1 → W b = V b) → TxtC W (x + 109) T L := fun W hW => (show DrF x V W from fun b hb => hW b (by omega)).txt hT
  suffices H : ∀ u i (W : Nat → Nat → Int32), s + i + u = fg T L s → (∀ b, b ≠ p1 → W b = V b) → (∀ j, W p1 j = if j < i ∧ j < N then nI (T (s + j)) - 48 else V p1 j) → wX1_ranks_12 x p1 (nI N) Q X (u + 1) sh (cx W (x + 109) (s + i) s 0) R c n (nI i) from ⟨_, H (fg T L s - s) 0 V (by omega) (fun _ _ => rfl) (fun j => by rw [if_neg (by omega)])⟩
  intro u
  induction u with
  | zero =>
    intro i W hi h1 h2
    rw [wX1_ranks_12, cx_a]
    have hD : DrF x V W := fun b hb => h1 b (by omega)
    have stop : (nI i = nI N → Q sh (cx W (x + 109) (s + i) s 0) R) ∧ (¬ nI i = nI N → (∃ c174 n174 c274 n274 : Nat, c174 + c274 ≤ c ∧ n174 + n274 ≤ n ∧ (wX3_wrong (x + 109) sh (cx W (x + 109) (s + i) s 0) R c174 n174 (fun r74 sh74 V74 R74 => (jReg shX1 sh74 x ∧ (sh74[p1]? = some (.inr (.inl (0, 8))) ∧ (jn ≤ p1 ∧ (∃ b77_1, r74 = some b77_1 ∧ (∃ fs77 : List Value, (mk sh74 V74 R74)[b77_1]? = some (.inr (6, fs77)) ∧ jn ≤ b77_1 ∧ X "VisitingHours$Wrong" sh74 V74 R74))))))))) := by
      refine ⟨fun z => ?_, fun z => ?_⟩
      · have hiN : i = N := (nI_eq (by omega) (by omega)).mp z
        rw [if_pos (by omega)] at hq
        have := hq W h1 (fun j => by
          rw [h2 j]
          by_cases y : j < N
          · rw [if_pos ⟨by omega, y⟩, if_pos y]
          · rw [if_neg (fun q => y q.2), if_neg y])
        rw [show fg T L s = s + i by omega] at this
        exact this
      · rw [if_neg (fun q => z (by rw [show i = N by omega]))] at hq
        exact ⟨1, 6, 0, 0, by omega, by omega, s3_wrong (reg3 hX) (by decide) (by decide) (fun s1 q fs e1 g1 hj => ⟨e1.reg hX, e1 _ _ hp1, hj1, q, rfl, fs, mk_atF g1, hj, hq s1 W _ _ e1 hD⟩)⟩
    refine s3_byteAt (TW W h1) (by omega) ?_
    by_cases z : s + i < L
    · rw [if_pos z]
      have h256 := hT.2.2.1 _ z
      have hno : pFi (T (s + i)) = false := by
        have := rn_end (p := pFi) (T := T) (L := L) (k := L - s) (a := s) rfl (by show fg T L s < L; omega)
        rw [show rn pFi T (L - s) s = s + i from hi.symm] at this
        exact this
      have e : inI (sb (T (s + i))) (48 : Int32) (57 : Int32) ↔ _ := sb_in (n := T (s + i)) (lo := 48) (hi := 57) h256 (by decide) (by decide)
      refine s1_in (p_bz ?_)
      rw [if_neg (fun q => by rw [pFi_iff.mpr (e.mp q)] at hno; cases hno)]
      exact stop
    · rw [if_neg z]
      refine s1_in (p_bz ?_)
      rw [if_neg (by decide)]
      exact stop
  | succ u ih =>
    intro i W hi h1 h2
    have hlt : s + i < L := by omega
    have h256 := hT.2.2.1 _ hlt
    have hfi : pFi (T (s + i)) = true := rn_mem (p := pFi) (T := T) (k := L - s) (a := s) (by omega) (by show s + i < fg T L s; omega)
    have hfb := pFi_iff.mp hfi
    have esb : sb (T (s + i)) = nI (T (s + i)) := sb_lo ⟨T (s + i), by omega⟩
    rw [wX1_ranks_12, cx_a]
    refine s3_byteAt (TW W h1) (by omega) ?_
    rw [if_pos hlt]
    have e : inI (sb (T (s + i))) (48 : Int32) (57 : Int32) ↔ _ := sb_in (n := T (s + i)) (lo := 48) (hi := 57) h256 (by decide) (by decide)
    refine s1_in (p_bz ?_)
    rw [if_pos (e.mpr hfb)]
    refine ⟨fun z => ?_, fun z => ?_⟩
    · have hNi : N ≤ i := (nI_leI (by omega) (by omega)).mp z
      refine nm_r (nI_1 i) ?_
      rw [cx_a]
      refine nm_r (nI_1 (s + i)) ?_
      rw [cxs_a]
      refine ih (i + 1) W (by omega) h1 (fun j => ?_)
      rw [h2 j]
      by_cases y : j < N
      · rw [if_pos ⟨by omega, y⟩, if_pos ⟨by omega, y⟩]
      · rw [if_neg (fun q => y q.2), if_neg (fun q => y q.2)]
    · have hNi : i < N := Nat.not_le.mp fun q => z (nI_le q (by omega))
      refine s3_byteAt (TW W h1) (by omega) ?_
      rw [if_pos hlt, esb]
      refine nm_e ⟨in8 (by omega), nm_r (nI_1 i) ?_⟩
      rw [cl8 (by omega), cxs_b (by omega), cx_a]
      refine nm_r (nI_1 (s + i)) ?_
      rw [cxs_a]
      refine ih (i + 1) _ (by omega) (fun b hb => by rw [vset_n _ _ _ hb]; exact h1 b hb) (fun j => ?_)
      rw [vset_at]
      by_cases y : j = i
      · rw [if_pos y, if_pos ⟨by omega, by omega⟩, y]
      · rw [if_neg y, h2 j]
        by_cases y2 : j < i ∧ j < N
        · rw [if_pos y2, if_pos ⟨by omega, y2.2⟩]
        · rw [if_neg y2, if_neg (by omega)]
theorem wrel_likes {r s : Nat} (hW : WRel V w m) (hR : RowOk m) (hr : r < nH m) (h1 : ∀ b, b ≠ w + 8 + 1 + r → V' b = V b) (h2 : ∀ j, V' (w + 8 + 1 + r) j = if j < nG m then nI (T (s + j)) - 48 else V (w + 8 + 1 + r) j) : WRel V' w (figR m T s (67 + 8 * r) (nG m)) := by
  have h8 := hR.H8; have g8 := hR.G8
  have o : ∀ j, ¬ (67 + 8 * r ≤ j ∧ j < 67 + 8 * r + nG m) → figR m T s (67 + 8 * r) (nG m) j = m j := fun j hj => if_neg hj
  refine hW.chg (o 3 (by omega)) (o 4 (by omega)) (fun b j k z => ?_)
  by_cases y : b = 9 + r
  · right
    rcases z with ⟨rfl, z⟩ | ⟨z1, z2, z3, rfl⟩ | ⟨z1, z2, z3, rfl⟩ | ⟨z1, z2, z3, rfl⟩ | ⟨z1, z2, z3, rfl⟩ | ⟨z1, z2, z3, rfl⟩ | ⟨rfl, z3, rfl⟩
    · omega
    · omega
    · omega
    · rw [show w + b = w + 8 + 1 + r by omega, h2 j, if_pos z3]
      unfold figR
      rw [if_pos (by omega), show s + (67 + 8 * (b - 9) + j - (67 + 8 * r)) = s + j by omega]
    · omega
    · omega
    · omega
  · left
    refine ⟨by rw [h1 _ (by omega)], o k ?_⟩
    rcases z with ⟨rfl, z⟩ | ⟨z1, z2, z3, rfl⟩ | ⟨z1, z2, z3, rfl⟩ | ⟨z1, z2, z3, rfl⟩ | ⟨z1, z2, z3, rfl⟩ | ⟨z1, z2, z3, rfl⟩ | ⟨rfl, z3, rfl⟩ <;> omega
theorem wrel_loves {r s : Nat} (hW : WRel V w m) (hR : RowOk m) (hr : r < nG m) (h1 : ∀ b, b ≠ w + 17 + 1 + r → V' b = V b) (h2 : ∀ j, V' (w + 17 + 1 + r) j = if j < nH m then nI (T (s + j)) - 48 else V (w + 17 + 1 + r) j) : WRel V' w (figR m T s (131 + 8 * r) (nH m)) := by
  have h8 := hR.H8; have g8 := hR.G8
  have o : ∀ j, ¬ (131 + 8 * r ≤ j ∧ j < 131 + 8 * r + nH m) → figR m T s (131 + 8 * r) (nH m) j = m j := fun j hj => if_neg hj
  refine hW.chg (o 3 (by omega)) (o 4 (by omega)) (fun b j k z => ?_)
  by_cases y : b = 18 + r
  · right
    rcases z with ⟨rfl, z⟩ | ⟨z1, z2, z3, rfl⟩ | ⟨z1, z2, z3, rfl⟩ | ⟨z1, z2, z3, rfl⟩ | ⟨z1, z2, z3, rfl⟩ | ⟨z1, z2, z3, rfl⟩ | ⟨rfl, z3, rfl⟩
    · omega
    · omega
    · omega
    · omega
    · rw [show w + b = w + 17 + 1 + r by omega, h2 j, if_pos z3]
      unfold figR
      rw [if_pos (by omega), show s + (131 + 8 * (b - 18) + j - (131 + 8 * r)) = s + j by omega]
    · omega
    · omega
  · left
    refine ⟨by rw [h1 _ (by omega)], o k ?_⟩
    rcases z with ⟨rfl, z⟩ | ⟨z1, z2, z3, rfl⟩ | ⟨z1, z2, z3, rfl⟩ | ⟨z1, z2, z3, rfl⟩ | ⟨z1, z2, z3, rfl⟩ | ⟨z1, z2, z3, rfl⟩ | ⟨rfl, z3, rfl⟩ <;> omega
/-! the kind of a line, by its word's hash -/
def hcs : Nat → Int32
  | 0 => 3208616
  | 1 => 98708952
  | 2 => 102974396
  | 3 => 103163713
  | 4 => 3492756
  | 5 => 3645428
  | 6 => 104696477
  | _ => 3016384
theorem hsh_tw : ∀ j : Fin 8, hsh (tw j.val) = hcs j.val := by decide +kernel
theorem hcs_inj : ∀ i j : Fin 8, hcs i.val = hcs j.val → i = j := by decide +kernel
theorem tw_inj : ∀ i j : Fin 8, tw i.val = tw j.val → i = j := by decide +kernel
theorem tw_len : ∀ i : Fin 8, 4 ≤ (tw i.val).length := by decide +kernel
theorem gKind_none (h : ∀ j, j < 8 → ¬ isW (tw j) T L a = true) : gKind T L a = none := by
  unfold gKind
  rw [if_neg (h 0 (by decide)), if_neg (h 1 (by decide)), if_neg (h 2 (by decide)), if_neg (h 3 (by decide)), if_neg (h 4 (by decide)), if_neg (h 5 (by decide)), if_neg (h 6 (by decide)), if_neg (h 7 (by decide))]
theorem gKind_some {k : Nat} (hk : k < 8) (h : isW (tw k) T L a = true) : gKind T L a = some k := by
  have no : ∀ j, j < 8 → j ≠ k → ¬ isW (tw j) T L a = true := fun j hj hjk q => hjk (by
    have e := (isW_at.mp q).symm.trans (isW_at.mp h)
    exact congrArg Fin.val (tw_inj ⟨j, hj⟩ ⟨k, hk⟩ e))
  unfold gKind
  obtain rfl | rfl | rfl | rfl | rfl | rfl | rfl | rfl : k = 0 ∨ k = 1 ∨ k = 2 ∨ k = 3 ∨ k = 4 ∨ k = 5 ∨ k = 6 ∨ k = 7 := by omega
  · rw [if_pos h]
  · rw [if_neg (no 0 (by decide) (by decide)), if_pos h]
  · rw [if_neg (no 0 (by decide) (by decide)), if_neg (no 1 (by decide) (by decide)), if_pos h]
  · rw [if_neg (no 0 (by decide) (by decide)), if_neg (no 1 (by decide) (by decide)), if_neg (no 2 (by decide) (by decide)), if_pos h]
  · rw [if_neg (no 0 (by decide) (by decide)), if_neg (no 1 (by decide) (by decide)), if_neg (no 2 (by decide) (by decide)), if_neg (no 3 (by decide) (by decide)), if_pos h]
  · rw [if_neg (no 0 (by decide) (by decide)), if_neg (no 1 (by decide) (by decide)), if_neg (no 2 (by decide) (by decide)), if_neg (no 3 (by decide) (by decide)), if_neg (no 4 (by decide) (by decide)), if_pos h]
  · rw [if_neg (no 0 (by decide) (by decide)), if_neg (no 1 (by decide) (by decide)), if_neg (no 2 (by decide) (by decide)), if_neg (no 3 (by decide) (by decide)), if_neg (no 4 (by decide) (by decide)), if_neg (no 5 (by decide) (by decide)), if_pos h]
  · rw [if_neg (no 0 (by decide) (by decide)), if_neg (no 1 (by decide) (by decide)), if_neg (no 2 (by decide) (by decide)), if_neg (no 3 (by decide) (by decide)), if_neg (no 4 (by decide) (by decide)), if_neg (no 5 (by decide) (by decide)), if_neg (no 6 (by decide) (by decide)), if_pos h]
theorem gKind_is {k : Nat} (h : gKind T L a = some k) : isW (tw k) T L a = true := by
  have hk := (gKind_lt h).2
  by_cases z : ∀ j, j < 8 → ¬ isW (tw j) T L a = true
  · rw [gKind_none z] at h; cases h
  · obtain ⟨j, hj⟩ := Classical.not_forall.mp z
    have hj1 : j < 8 := Classical.byContradiction fun q => hj (fun q2 => absurd q2 q)
    have hj2 : isW (tw j) T L a = true := Classical.byContradiction fun q => hj (fun _ => q)
    have := gKind_some hj1 hj2
    rw [h] at this
    have e : k = j := Option.some.inj this
    rw [e]; exact hj2
theorem reg_row (hX : jReg shX1 sh x) {o r : Nat} (hr : r < 8) (ho : o = 8 ∨ o = 17) : sh[x + 37 + o + 1 + r]? = some (.inr (.inl (0, 8))) ∧ jn ≤ x + 37 + o + 1 + r := by
  have h := reg2d hX
  have h2 : ∀ i : Fin 8, shX2[8 + 1 + i.val]? = some (.inr (.inl (0, 8))) ∧ shX2[17 + 1 + i.val]? = some (.inr (.inl (0, 8))) := fun i => match i with
    | ⟨0, _⟩ => ⟨rfl, rfl⟩
    | ⟨1, _⟩ => ⟨rfl, rfl⟩
    | ⟨2, _⟩ => ⟨rfl, rfl⟩
    | ⟨3, _⟩ => ⟨rfl, rfl⟩
    | ⟨4, _⟩ => ⟨rfl, rfl⟩
    | ⟨5, _⟩ => ⟨rfl, rfl⟩
    | ⟨6, _⟩ => ⟨rfl, rfl⟩
    | ⟨7, _⟩ => ⟨rfl, rfl⟩
  refine ⟨?_, by have := h.1; omega⟩
  have h3 := h2 ⟨r, hr⟩
  rcases ho with rfl | rfl
  · have := h.2 _ _ h3.1
    rw [show x + 37 + (8 + 1 + r) = x + 37 + 8 + 1 + r by omega] at this
    exact this
  · have := h.2 _ _ h3.2
    rw [show x + 37 + (17 + 1 + r) = x + 37 + 17 + 1 + r by omega] at this
    exact this
/-- behind the kind of a line -/
theorem s1_line (hX : jReg shX1 sh x) (hC : ConSh sh) (hT : TxtC V (x + 109) T L) (hW : WRel V (x + 37) m) (hR : RowOk m) (ha : a ≤ L) (hc : 60 ≤ c) (hn : 11000 ≤ n) (hq : pO (gLine T L m a) (fun b => gB X sh V R x b) (fun m2 e => ∀ sh' V' bg, Ext sh sh' → DrF x V V' → WRel V' (x + 37) m2 → Q sh' (cx V' (x + 109) e bg 0) R)) : (∀ k, gKind T L a = some k → wX1_groundLine_211 x (x + 37) Q X sh (cx V (x + 109) (wd T L (sk T L a)) (sk T L a) 0) R c n (nI k)) ∧ (gKind T L a = none → wX1_groundLine_211 x (x + 37) Q X sh (cx V (x + 109) (wd T L (sk T L a)) (sk T L a) 0) R c n (-1)) := by
  have h8 := hR.H8; have g8 := hR.G8
  have hs := sk_le (T := T) ha
  have hw := wd_le (T := T) hs
  constructor
  · intro k hk
    have hk8 := (gKind_lt hk).2
    unfold gLine at hq
    rw [hk] at hq
    have hq1 : pO (if k = 0 then gHost T L (sk T L a) m (wd T L (sk T L a)) else if k = 1 then gGuest T L (sk T L a) m (wd T L (sk T L a)) else if k = 2 then gRanks T L m 67 (nH m) (nG m) (wd T L (sk T L a)) else if k = 3 then gRanks T L m 131 (nG m) (nH m) (wd T L (sk T L a)) else if k = 4 then gTells T L m 5 0 100 (wd T L (sk T L a)) else if k = 5 then gTells T L m 6 0 999 (wd T L (sk T L a)) else if k = 6 then gLet T L m 7 (wd T L (sk T L a)) else gLet T L m 8 (wd T L (sk T L a))) (fun b => gB X sh V R x b) (fun m2 e => ∀ sh' V' bg, Ext sh sh' → DrF x V V' → WRel V' (x + 37) m2 → Q sh' (cx V' (x + 109) e bg 0) R) := hq
    clear hq
    generalize wd T L (sk T L a) = p at *
    generalize sk T L a = s at *
    have tell : ∀ (j0 k0 : Nat) (hi : Int32) (K : List jH → (Nat → Nat → Int32) → (Nat → Nat → Option Nat) → Prop), (∀ b j k, WM (nH m) (nG m) b j k → (b = 0 ∧ j = j0 ↔ k = k0)) → k0 ≠ 3 ∧ k0 ≠ 4 → pO (gTells T L m k0 0 hi p) (fun b => gB X sh V R x b) (fun m2 e => ∀ sh' V' bg, Ext sh sh' → DrF x V V' → WRel V' (x + 37) m2 → Q sh' (cx V' (x + 109) e bg 0) R) → ∃ c1327 n1327 c2327 n2327 : Nat, c1327 + c2327 ≤ c ∧ n1327 + n2327 ≤ n ∧ (wX3_number (x + 109) sh (cx V (x + 109) p s 0) R c1327 n1327 (0 : Int32) hi (fun r327 sh327 V327 R327 => (jReg shX1 sh327 x ∧ (jReg shX2 sh327 (x + 37) ∧ Q sh327 (vset V327 (x + 37) j0 r327) R327))) (fun E9 shx Vx Rx => X E9 shx Vx Rx)) := by
      intro j0 k0 hi K hwm hk0 h
      unfold gTells at h
      refine ⟨1, 6, 0, 0, by omega, by omega, s3_number (reg3 hX) hT hw (by decide) (by decide) (pO_mono (pO_B h) (fun b h => gB.bc h Ext.refl DrF.refl) (fun v e h => ⟨hX, reg2d hX, ?_⟩))⟩
      rw [cxs_b (by omega)]
      exact h sh _ _ Ext.refl (fun b hb => vset_n _ _ _ (by omega)) (hW.put (b0 := 0) hk0 hwm)
    have lett : ∀ (j0 k0 : Nat), (∀ b j k, WM (nH m) (nG m) b j k → (b = 0 ∧ j = j0 ↔ k = k0)) → k0 ≠ 3 ∧ k0 ≠ 4 → pO (gLet T L m k0 p) (fun b => gB X sh V R x b) (fun m2 e => ∀ sh' V' bg, Ext sh sh' → DrF x V V' → WRel V' (x + 37) m2 → Q sh' (cx V' (x + 109) e bg 0) R) → ∃ c1327 n1327 c2327 n2327 : Nat, c1327 + c2327 ≤ c ∧ n1327 + n2327 ≤ n ∧ (wX1_marksTold x sh (cx V (x + 109) p s 0) R c1327 n1327 (fun r327 sh327 V327 R327 => (jReg shX1 sh327 x ∧ (jReg shX2 sh327 (x + 37) ∧ Q sh327 (vset V327 (x + 37) j0 r327) R327))) (fun E9 shx Vx Rx => X E9 shx Vx Rx)) := by
      intro j0 k0 hwm hk0 h
      unfold gLet at h
      refine ⟨11, 2070, 0, 0, by omega, by omega, s1_marksTold hX hT hw (by decide) (by decide) (pO_mono (pO_B h) (fun b h => gB.bc h Ext.refl DrF.refl) (fun v e h s1 bg1 e1 => ⟨e1.reg hX, reg2d (e1.reg hX), ?_⟩))⟩
      rw [cxs_b (by omega)]
      exact h s1 _ _ e1 (fun b hb => vset_n _ _ _ (by omega)) (hW.put (b0 := 0) hk0 hwm)
    have wm : ∀ j0 k0, ((j0 = 3 ∧ k0 = 5) ∨ (j0 = 6 ∧ k0 = 6) ∨ (j0 = 4 ∧ k0 = 7) ∨ (j0 = 5 ∧ k0 = 8)) → ∀ b j k, WM (nH m) (nG m) b j k → (b = 0 ∧ j = j0 ↔ k = k0) := by
      intro j0 k0 h b j k z
      rcases z with ⟨rfl, z⟩ | ⟨z1, z2, z3, rfl⟩ | ⟨z1, z2, z3, rfl⟩ | ⟨z1, z2, z3, rfl⟩ | ⟨z1, z2, z3, rfl⟩ | ⟨z1, z2, z3, rfl⟩ | ⟨rfl, z3, rfl⟩ <;> omega
    unfold wX1_groundLine_211
    obtain rfl | rfl | rfl | rfl | rfl | rfl | rfl | rfl : k = 0 ∨ k = 1 ∨ k = 2 ∨ k = 3 ∨ k = 4 ∨ k = 5 ∨ k = 6 ∨ k = 7 := by omega
    · refine br_t rfl ⟨40, 7000, 0, 0, by omega, by omega, s1_aHost hX hC hT hW hR hw (by decide) (by decide) (pO_mono hq1 (fun _ h => h) (fun m2 e h s1 V1 bg1 e1 d1 w1 => ⟨e1.reg hX, reg2d (e1.reg hX), h s1 V1 bg1 e1 d1 w1⟩))⟩
    · refine br_f (by decide) (br_t rfl ⟨60, 11000, 0, 0, by omega, by omega, s1_aGuest hX hC hT hW hR hw (by decide) (by decide) (pO_mono hq1 (fun _ h => h) (fun m2 e h s1 V1 bg1 e1 d1 w1 => ⟨e1.reg hX, reg2d (e1.reg hX), h s1 V1 bg1 e1 d1 w1⟩))⟩)
    · refine br_f (by decide) (br_f (by decide) (br_t rfl ⟨1, 6, 1, 6, by omega, by omega, ?_⟩))
      have hq2 : pO (gRanks T L m 67 (nH m) (nG m) p) (fun b => gB X sh V R x b) (fun m2 e => ∀ sh' V' bg, Ext sh sh' → DrF x V V' → WRel V' (x + 37) m2 → Q sh' (cx V' (x + 109) e bg 0) R) := hq1
      unfold gRanks at hq2
      rw [cx_b (by omega), hW.hosts, hR.H]
      refine s3_number (reg3 hX) hT hw (by decide) (by decide) (pO_mono (pO_and (pO_B hq2) (pNum_le hw)) (fun b h => gB.bc h.1 Ext.refl DrF.refl) (fun r e h => ?_))
      have hr : r < nH m := by
        obtain ⟨k, hk1, hk2⟩ := (inI_nat (by omega)).mp h.2.2.2.2
        have := nI_inj (by omega) (by omega) hk2
        omega
      obtain ⟨hp1, hj1⟩ := reg_row hX (o := 8) (show r < 8 by omega) (Or.inl rfl)
      refine ⟨hX, reg2d hX, in8 (by omega), 1, 6, 0, 0, by decide, by decide, ?_⟩
      rw [cl8 (show r < 8 by omega), cx_b (by omega), hW.guests, hR.G]
      refine s1_ranks hX hT hp1 hj1 (by omega) g8 h.2.2.1 (by decide) (by decide) ?_
      have h3 := h.1
      by_cases z : fg T L (sk T L e) = sk T L e + nG m
      · rw [if_pos z] at h3 ⊢
        exact fun V1 f1 f2 => ⟨hX, reg2d hX, h3 sh V1 _ Ext.refl (fun b hb => f1 b (by omega)) (wrel_likes hW hR hr f1 f2)⟩
      · rw [if_neg z] at h3 ⊢
        exact h3
    · refine br_f (by decide) (br_f (by decide) (br_f (by decide) (br_t rfl ⟨1, 6, 1, 6, by omega, by omega, ?_⟩)))
      have hq2 : pO (gRanks T L m 131 (nG m) (nH m) p) (fun b => gB X sh V R x b) (fun m2 e => ∀ sh' V' bg, Ext sh sh' → DrF x V V' → WRel V' (x + 37) m2 → Q sh' (cx V' (x + 109) e bg 0) R) := hq1
      unfold gRanks at hq2
      rw [cx_b (by omega), hW.guests, hR.G]
      refine s3_number (reg3 hX) hT hw (by decide) (by decide) (pO_mono (pO_and (pO_B hq2) (pNum_le hw)) (fun b h => gB.bc h.1 Ext.refl DrF.refl) (fun r e h => ?_))
      have hr : r < nG m := by
        obtain ⟨k, hk1, hk2⟩ := (inI_nat (by omega)).mp h.2.2.2.2
        have := nI_inj (by omega) (by omega) hk2
        omega
      obtain ⟨hp1, hj1⟩ := reg_row hX (o := 17) (show r < 8 by omega) (Or.inr rfl)
      refine ⟨hX, reg2d hX, in8 (by omega), 1, 6, 0, 0, by decide, by decide, ?_⟩
      rw [cl8 (show r < 8 by omega), cx_b (by omega), hW.hosts, hR.H]
      refine s1_ranks hX hT hp1 hj1 (by omega) h8 h.2.2.1 (by decide) (by decide) ?_
      have h3 := h.1
      by_cases z : fg T L (sk T L e) = sk T L e + nH m
      · rw [if_pos z] at h3 ⊢
        exact fun V1 f1 f2 => ⟨hX, reg2d hX, h3 sh V1 _ Ext.refl (fun b hb => f1 b (by omega)) (wrel_loves hW hR hr f1 f2)⟩
      · rw [if_neg z] at h3 ⊢
        exact h3
    · exact br_f (by decide) (br_f (by decide) (br_f (by decide) (br_f (by decide) (br_t rfl (tell 3 5 100 Q (wm 3 5 (by omega)) (by omega) hq1)))))
    · exact br_f (by decide) (br_f (by decide) (br_f (by decide) (br_f (by decide) (br_f (by decide) (br_t rfl (tell 6 6 999 Q (wm 6 6 (by omega)) (by omega) hq1))))))
    · exact br_f (by decide) (br_f (by decide) (br_f (by decide) (br_f (by decide) (br_f (by decide) (br_f (by decide) (br_t rfl (lett 4 7 (wm 4 7 (by omega)) (by omega) hq1)))))))
    · exact br_f (by decide) (br_f (by decide) (br_f (by decide) (br_f (by decide) (br_f (by decide) (br_f (by decide) (br_f (by decide) (br_t rfl (lett 5 8 (wm 5 8 (by omega)) (by omega) hq1))))))))
  · intro hk
    unfold gLine at hq
    rw [hk] at hq
    have hq1 : gB X sh V R x (sk T L a) := hq
    unfold wX1_groundLine_211
    exact br_f (by decide) (br_f (by decide) (br_f (by decide) (br_f (by decide) (br_f (by decide) (br_f (by decide) (br_f (by decide) (br_f (by decide) (s1_wrongG hX (by omega) (by omega) (gB.bc hq1 Ext.refl DrF.refl)))))))))
theorem s1_groundLine (hX : jReg shX1 sh x) (hC : ConSh sh) (hT : TxtC V (x + 109) T L) (hW : WRel V (x + 37) m) (hR : RowOk m) (ha : a ≤ L) (hc : 70 ≤ c) (hn : 13100 ≤ n) (hq : pO (gLine T L m a) (fun b => gB X sh V R x b) (fun m2 e => ∀ sh' V' bg, Ext sh sh' → DrF x V V' → WRel V' (x + 37) m2 → Q sh' (cx V' (x + 109) e bg 0) R)) : wX1_groundLine x (x + 37) sh (cx V (x + 109) a b 0) R c n Q X := by
  have h4 := wl_400 (T := T) hT.1 ha
  refine ⟨10, 2064, 60, 11000, by omega, by omega, s3_word (reg3 hX) hT ha (by decide) (by omega) (fun s1 q e1 w1 l1 => ⟨e1.reg hX, reg2d (e1.reg hX), q, rfl, _, mk_atF w1.choose_spec.choose_spec.1, 0, 0, 60, 11000, by decide, by decide, ?_⟩)⟩
  refine s5_hashCode w1 (fun s2 h2 k2 => ⟨s2, _, _, rfl, ?_⟩)
  have e2 : Ext sh s2 := fun j t ht => k2 j t (by have := (List.getElem?_eq_some_iff.mp ht).1; omega) (e1 j t ht)
  refine ⟨e2.reg hX, reg2d (e2.reg hX), ?_⟩
  have hl := s1_line (Q := Q) (c := 60) (n := 11000) (e2.reg hX) (e2.con hC) hT hW hR ha (by decide) (by decide) (pO_mono hq (fun b h => gB.nx h e2 DrF.refl) (fun m2 e h s3 V3 bg3 e3 d3 w3 => h s3 V3 bg3 (e2.trans e3) d3 w3))
  have hjq : jn ≤ q := h2.choose_spec.choose_spec.choose_spec.2.2.2.2.2
  have h17 : ∃ fs : List Value, (mk s2 (cx V (x + 109) (wd T L (sk T L a)) (sk T L a) 0) R)[q]? = some (.inr (17, fs)) := ⟨_, mk_atF h2.choose_spec.choose_spec.choose_spec.1⟩
  have hash : ∀ j, j < 8 → isW (tw j) T L a = true → hsh (wAt T L a) = hcs j := fun j hj h => by
    rw [isW_at.mp h]
    exact hsh_tw ⟨j, hj⟩
  have hC2 : ConG (mk s2 (cx V (x + 109) (wd T L (sk T L a)) (sk T L a) 0) R) := (e2.con hC).g
  have one : ∀ (j id : Nat), j < 8 → id ≤ 64 → StrG (mk s2 (cx V (x + 109) (wd T L (sk T L a)) (sk T L a) 0) R) id (tw j) → hsh (wAt T L a) = hcs j → ∃ fs : List Value, (mk s2 (cx V (x + 109) (wd T L (sk T L a)) (sk T L a) 0) R)[q]? = some (.inr (17, fs)) ∧ wJ5_equals (mk s2 (cx V (x + 109) (wd T L (sk T L a)) (sk T L a) 0) R) q id (fun r201 => ((r201 = 0 → wX1_groundLine_211 x (x + 37) Q X s2 (cx V (x + 109) (wd T L (sk T L a)) (sk T L a) 0) R 60 11000 (-1 : Int32)) ∧ (¬ r201 = 0 → wX1_groundLine_211 x (x + 37) Q X s2 (cx V (x + 109) (wd T L (sk T L a)) (sk T L a) 0) R 60 11000 (nI j)))) := by
    intro j id hj hid hs hh
    refine ⟨_, h17.choose_spec, s5_equals h2.g hs (Or.inr (Or.inl ⟨hjq, hid⟩)) ?_⟩
    by_cases z : isW (tw j) T L a = true
    · rw [b2i_t (isW_at.mp z)]
      exact ⟨fun q => absurd q (by decide), fun _ => hl.1 j (gKind_some hj z)⟩
    · rw [b2i_f (fun q => z (isW_at.mpr q))]
      refine ⟨fun _ => hl.2 (gKind_none (fun i hi q => ?_)), fun q => absurd rfl q⟩
      have e := (hash i hi q).symm.trans hh
      have e2 : i = j := congrArg Fin.val (hcs_inj ⟨i, hi⟩ ⟨j, hj⟩ e)
      rw [e2] at q
      exact z q
  refine ⟨fun z => one 7 14 (by decide) (by decide) (str_7 hC2) z, fun z7 => ⟨fun z => one 0 0 (by decide) (by decide) (str_0 hC2) z, fun z0 => ⟨fun z => one 4 8 (by decide) (by decide) (str_4 hC2) z, fun z4 => ⟨fun z => one 5 10 (by decide) (by decide) (str_5 hC2) z, fun z5 => ⟨fun z => one 1 2 (by decide) (by decide) (str_1 hC2) z, fun z1 => ⟨fun z => one 2 4 (by decide) (by decide) (str_2 hC2) z, fun z2 => ⟨fun z => one 3 6 (by decide) (by decide) (str_3 hC2) z, fun z3 => ⟨fun z => one 6 12 (by decide) (by decide) (str_6 hC2) z, fun z6 => hl.2 (gKind_none (fun i hi q => ?_))⟩⟩⟩⟩⟩⟩⟩⟩
  have e := hash i hi q
  obtain rfl | rfl | rfl | rfl | rfl | rfl | rfl | rfl : i = 0 ∨ i = 1 ∨ i = 2 ∨ i = 3 ∨ i = 4 ∨ i = 5 ∨ i = 6 ∨ i = 7 := by omega
  · exact z0 e
  · exact z1 e
  · exact z2 e
  · exact z3 e
  · exact z4 e
  · exact z5 e
  · exact z6 e
  · exact z7 e
theorem s1_goesOnG {Q : Int32 → List jH → (Nat → Nat → Int32) → (Nat → Nat → Option Nat) → Prop} (hX : jReg shX1 sh x) (hT : TxtC V (x + 109) T L) (ha : a ≤ L) (hc : 1 ≤ c) (hn : 6 ≤ n) (hq : if sk T L a = L then Q 0 sh (cx V (x + 109) (sk T L a) (sk T L a) 0) R else if isS 59 T L a = true then Q 1 sh (cx V (x + 109) (sk T L a + 1) (sk T L a) 0) R else gB X sh V R x (sk T L a)) : wX1_goesOn x sh (cx V (x + 109) a b 0) R c n Q X := by
  refine s1_goesOn hX hT ha hc hn ?_
  by_cases z : sk T L a = L
  · rw [if_pos z] at hq ⊢; exact hq
  · rw [if_neg z] at hq ⊢
    by_cases z2 : isS 59 T L a = true
    · rw [if_pos z2] at hq ⊢; exact hq
    · rw [if_neg z2] at hq ⊢; exact gB.bc hq Ext.refl DrF.refl
theorem gLine_4 (hR : RowOk m) (ha : a ≤ L) : pO (gLine T L m a) (fun b => b ≤ L) (fun m2 e => a + 4 < e ∧ e ≤ L ∧ RowOk m2) := by
  have hok := gLine_ok (T := T) hR ha
  have hs := sk_le (T := T) ha
  have hsg := sk_ge (T := T) (L := L) (a := a)
  have hwl := wd_le (T := T) hs
  rcases hk : gKind T L a with _ | k
  · have hn : gLine T L m a = .inl (sk T L a) := by unfold gLine; rw [hk]
    rw [hn]
    exact hs
  · have hk8 := (gKind_lt hk).2
    have h4 : a + 4 ≤ wd T L (sk T L a) := by
      have e1 := (isW_iff.mp (gKind_is hk)).1
      have e2 := tw_len ⟨k, hk8⟩
      simp only [] at e2
      omega
    have key : ∀ r : Pz Row, gLine T L m a = r → pO r (fun b => b ≤ L) (okL L (wd T L (sk T L a)) m) → pO r (fun b => b ≤ L) (fun m2 e => a + 4 < e ∧ e ≤ L ∧ RowOk m2) := fun r _ h => pO_mono h (fun _ z => z) (fun m2 e z => ⟨by have := z.1; omega, z.2.1, z.2.2.1⟩)
    unfold gLine
    rw [hk]
    show pO (if k = 0 then gHost T L (sk T L a) m (wd T L (sk T L a)) else if k = 1 then gGuest T L (sk T L a) m (wd T L (sk T L a)) else if k = 2 then gRanks T L m 67 (nH m) (nG m) (wd T L (sk T L a)) else if k = 3 then gRanks T L m 131 (nG m) (nH m) (wd T L (sk T L a)) else if k = 4 then gTells T L m 5 0 100 (wd T L (sk T L a)) else if k = 5 then gTells T L m 6 0 999 (wd T L (sk T L a)) else if k = 6 then gLet T L m 7 (wd T L (sk T L a)) else gLet T L m 8 (wd T L (sk T L a))) (fun b => b ≤ L) (fun m2 e => a + 4 < e ∧ e ≤ L ∧ RowOk m2)
    have up : ∀ r : Pz Row, pO r (fun b => b ≤ L) (okL L (wd T L (sk T L a)) m) → pO r (fun b => b ≤ L) (fun m2 e => a + 4 < e ∧ e ≤ L ∧ RowOk m2) := fun r h => pO_mono h (fun _ z => z) (fun m2 e z => ⟨by have := z.1; omega, z.2.1, z.2.2.1⟩)
    split
    · exact up _ (gHost_ok hR hs hwl)
    split
    · exact up _ (gGuest_ok hR hs hwl)
    split
    · exact up _ (gRanks_ok hR (Or.inl ⟨rfl, rfl, rfl⟩) hwl)
    split
    · exact up _ (gRanks_ok hR (Or.inr ⟨rfl, rfl, rfl⟩) hwl)
    split
    · exact up _ (gTells_ok hR (Or.inr ⟨rfl, rfl⟩) hwl)
    split
    · exact up _ (gTells_ok hR (Or.inl rfl) hwl)
    split
    · exact up _ (gLet_ok hR (Or.inl rfl) hwl)
    · exact up _ (gLet_ok hR (Or.inr rfl) hwl)
theorem s1_groundText (hX : jReg shX1 sh x) (hC : ConSh sh) (hT : TxtC V (x + 109) T L) (hW : WRel V (x + 37) m) (hR : RowOk m) (hc : 200 + 100 * L ≤ c) (hn : 20000 + 4000 * L ≤ n) (hq : pO (gText T L m) (fun b => gB X sh V R x b) (fun m2 _ => ∀ sh' V' a' bg, Ext sh sh' → DrF x V V' → WRel V' (x + 37) m2 → Q sh' (cx V' (x + 109) a' bg 0) R)) : wX1_groundText x (x + 37) sh (cx V (x + 109) 0 b 0) R c n Q X := by
  have hL := hT.1
  have hs := sk_le (T := T) (Nat.zero_le L)
  have lp : ∀ u (s1 : List jH) (V1 : Nat → Nat → Int32) (m1 : Row) (p bg i c n : Nat), i + u = 14 → p ≤ L → Ext sh s1 → DrF x V V1 → WRel V1 (x + 37) m1 → RowOk m1 → 190 + 100 * (L - p) ≤ c → 19000 + 4000 * (L - p) ≤ n → pO (gTextL T L (u + 1) i m1 p) (fun b => gB X sh V R x b) (fun m2 _ => ∀ sh' V' a' bg, Ext sh sh' → DrF x V V' → WRel V' (x + 37) m2 → Q sh' (cx V' (x + 109) a' bg 0) R) → wX1_groundText_13 x (x + 37) Q X (u + 1) s1 (cx V1 (x + 109) p bg 0) R c n (nI i) := by
    intro u
    induction u with
    | zero =>
      intro s1 V1 m1 p bg i c n hi hp he hd hw hr hc hn hq
      have hi14 : i = 14 := by omega
      unfold gTextL at hq
      rw [if_pos hi14] at hq
      have hq1 : gB X sh V R x (sk T L p) := hq
      refine ⟨c, n, 0, 0, by omega, by omega, s1_noMore (m := 14) (he.reg hX) (hd.txt hT) hp (by omega) (by decide) (fun _ => by have := wl_400 (T := T) hL hp; omega) ?_⟩
      rw [if_pos (by omega)]
      exact gB.bc hq1 he hd
    | succ u ih =>
      intro s1 V1 m1 p bg i c n hi hp he hd hw hr hc hn hq
      have hi14 : ¬ i = 14 := by omega
      unfold gTextL at hq
      rw [if_neg hi14] at hq
      refine ⟨0, 0, c, n, by omega, by omega, s1_noMore (m := 14) (he.reg hX) (hd.txt hT) hp (by omega) (by decide) (fun z => by omega) ?_⟩
      rw [if_neg (by omega)]
      refine ⟨he.reg hX, reg2d (he.reg hX), 70, 13100, c - 70, n - 13100, by omega, by omega, s1_groundLine (he.reg hX) (he.con hC) (hd.txt hT) hw hr hp (by decide) (by decide) (pO_mono (pO_and (pO_B hq) (gLine_4 hr hp)) (fun b h => gB.nx h.1 he hd) (fun m2 e h s2 V2 bg2 e2 d2 w2 => ?_))⟩
      obtain ⟨hq2, hpe, heL, hr2⟩ := h
      have e12 := he.trans e2
      have d12 := hd.trans d2
      refine ⟨e12.reg hX, reg2d (e12.reg hX), nm_r (nI_1 i) ⟨1, 6, c - 71, n - 13106, by omega, by omega, s1_goesOnG (e12.reg hX) (d12.txt hT) heL (by decide) (by decide) ?_⟩⟩
      have hsel := sk_le (T := T) heL
      have hsg := sk_ge (T := T) (L := L) (a := e)
      by_cases y1 : sk T L e = L
      · rw [if_pos y1] at hq2 ⊢
        exact ⟨e12.reg hX, reg2d (e12.reg hX), fun q => absurd rfl q, fun _ => hq2 s2 V2 _ _ e12 d12 w2⟩
      · rw [if_neg y1] at hq2 ⊢
        by_cases y2 : isS 59 T L e = true
        · rw [if_pos y2] at hq2 ⊢
          have hlt := (isS_iff.mp y2).1
          exact ⟨e12.reg hX, reg2d (e12.reg hX), fun _ => ih s2 V2 m2 (sk T L e + 1) _ (i + 1) _ _ (by omega) (by omega) e12 d12 w2 hr2 (by omega) (by omega) hq2, fun q => absurd q (by decide)⟩
        · rw [if_neg y2] at hq2 ⊢
          exact gB.nx hq2 e12 d12
  unfold gText at hq
  refine s3_isOver hT (Nat.zero_le _) ?_
  by_cases z : sk T L 0 = L
  · rw [if_neg (by omega)] at hq
    rw [if_pos z]
    exact ⟨fun q => absurd q (by decide), fun _ => hq sh V _ _ Ext.refl DrF.refl hW⟩
  · rw [if_pos (by omega)] at hq
    rw [if_neg z]
    exact ⟨fun _ => ⟨_, lp 14 sh V m (sk T L 0) _ 0 c n rfl hs Ext.refl DrF.refl hW hR (by omega) (by omega) hq⟩, fun q => absurd rfl q⟩
end CG3
