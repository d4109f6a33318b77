/-! ===== PURE: the component reads words and numbers ===== -/
def wl (T : Nat → Nat) (L a : Nat) : Nat := wd T L (sk T L a) - sk T L a
theorem wAt_len {T : Nat → Nat} {L a : Nat} : (wAt T L a).length = wl T L a := by unfold wAt wl; rw [List.length_map, List.length_range]
theorem wAt_get {T : Nat → Nat} {L a i : Nat} (hi : i < wl T L a) : (wAt T L a).getD i 0 = T (sk T L a + i) := by
  unfold wAt
  unfold wl at hi
  rw [List.getD_eq_getElem?_getD, List.getElem?_map, List.getElem?_range hi]
  rfl
/-- a made word at q -/
def StrW (sh : List jH) (q : Nat) (bs : List Nat) : Prop := ∃ (q1 : Nat) (f : Nat → Int32), sh[q]? = some (jF (.inr (17, [.ref q1, .int 0, .int 0, .int 0]))) ∧ sh[q1]? = some (jF (.inl (1, bs.length, .inl f))) ∧ (∀ i, i < bs.length → f i = nI (bs.getD i 0)) ∧ bs.length ≤ 400 ∧ (∀ i, i < bs.length → 97 ≤ bs.getD i 0 ∧ bs.getD i 0 ≤ 122) ∧ jn ≤ q ∧ jn ≤ q1 ∧ q ≠ q1
theorem StrW.g {sh : List jH} {q : Nat} {bs : List Nat} (h : StrW sh q bs) {V : Nat → Nat → Int32} {R : Nat → Nat → Option Nat} : StrG (mk sh V R) q bs := by
  obtain ⟨q1, f, h1, h2, h3, h4, h5, -⟩ := h
  exact ⟨q1, f, _, mk_atF h1, mk_atF h2, h3, by omega, fun i hi => by have := h5 i hi; omega⟩
theorem reg3 {sh : List jH} {x : Nat} (h : jReg shX1 sh x) : jReg shX3 sh (x + 109) := h.sub 109 2 rfl
theorem reg_len {sh : List jH} {r : Nat} (h : jReg shX3 sh r) : jn ≤ sh.length := by
  have h1 := h.1
  have := (List.getElem?_eq_some_iff.mp (h.2 0 _ rfl)).1
  omega
section CW
variable {sh : List jH} {V : Nat → Nat → Int32} {R : Nat → Nat → Option Nat} {r a b d L c n : Nat} {T : Nat → Nat}
theorem putF {s : List jH} {k i cl : Nat} {fs : List Value} {v : Value} {P : List jC → Prop} (h : s[k]? = some (jF (.inr (cl, fs)))) (e : Ext sh s) (hk : sh.length ≤ k) (hj : jn ≤ k) (hi : i < fs.length) (nx : ∀ s', Ext sh s' → s'[k]? = some (jF (.inr (cl, fs.set i v))) → (∀ j t, j ≠ k → s[j]? = some t → s'[j]? = some t) → s'.length = s.length → P (mk s' V R)) : ∃ fs6 : List Value, (mk s V R)[k]? = some (.inr (cl, fs6)) ∧ jn ≤ k ∧ i < fs6.length ∧ (∀ g6 : List jC, g6 = (mk s V R).set k (.inr (cl, fs6.set i v)) → P g6) := by
  refine ⟨fs, mk_atF h, hj, hi, ?_⟩
  rw [mk_setF h]
  exact nm_e (nx _ (e.set hk) (ats h) (fun j t hjk ht => at_setN ht (Ne.symm hjk)) List.length_set)
theorem s3_wrong {Q : Option Nat → List jH → (Nat → Nat → Int32) → (Nat → Nat → Option Nat) → Prop} (hr : jReg shX3 sh r) (hc : 1 ≤ c) (hn : 6 ≤ n) (hq : ∀ sh' q fs, Ext sh sh' → sh'[q]? = some (jF (.inr (6, fs))) → jn ≤ q → Q (some q) sh' V R) : wX3_wrong r sh V R c n Q := by
  have hj := reg_len hr
  refine ⟨c - 1, n - 6, by omega, by omega, nm_e (nm_e ?_)⟩
  refine putF (at_push) Ext.refl.push (Nat.le_refl _) hj (Nat.le_of_ble_eq_true rfl) (fun s1 e1 a1 _ _ => fun o _ => ?_)
  refine putF a1 e1 (Nat.le_refl _) hj (Nat.le_of_ble_eq_true rfl) (fun s2 e2 a2 _ _ => fun o2 _ => ?_)
  refine putF a2 e2 (Nat.le_refl _) hj (Nat.le_of_ble_eq_true rfl) (fun s3 e3 a3 _ _ => br_t rfl ?_)
  refine putF a3 e3 (Nat.le_refl _) hj (Nat.le_of_ble_eq_true rfl) (fun s4 e4 a4 _ _ => ?_)
  refine putF a4 e4 (Nat.le_refl _) hj (Nat.le_of_ble_eq_true rfl) (fun s5 e5 a5 _ _ => ?_)
  refine putF a5 e5 (Nat.le_refl _) hj (Nat.le_of_ble_eq_true rfl) (fun s6 e6 a6 _ _ => ?_)
  refine ⟨fun z => absurd rfl z, fun _ => ?_⟩
  refine putF a6 e6 (Nat.le_refl _) hj (Nat.le_of_ble_eq_true rfl) (fun s7 e7 a7 _ _ => ?_)
  exact ⟨s7, _, _, rfl, e7.reg hr, hq _ _ _ e7 a7 hj⟩
theorem s3_word {Q : Option Nat → List jH → (Nat → Nat → Int32) → (Nat → Nat → Option Nat) → Prop} (hr : jReg shX3 sh r) (hT : TxtC V r T L) (ha : a ≤ L) (hc : 10 ≤ c) (hn : 64 + 5 * wl T L a ≤ n) (hq : ∀ sh' q, Ext sh sh' → StrW sh' q (wAt T L a) → sh.length ≤ q → Q (some q) sh' (cx V r (wd T L (sk T L a)) (sk T L a) d) R) : wX3_word r sh (cx V r a b d) R c n Q := by
  have hL := hT.1
  have hj := reg_len hr
  have hs := sk_le (T := T) ha
  have hlow : ∀ i, i < wl T L a → 97 ≤ T (sk T L a + i) ∧ T (sk T L a + i) ≤ 122 := fun i hi => pLo_iff.mp (rn_mem (p := pLo) (T := T) (k := L - sk T L a) (a := sk T L a) (by omega) (by show _ < wd T L (sk T L a); unfold wl at hi; omega))
  have hwl : wd T L (sk T L a) = sk T L a + wl T L a := by unfold wl; have := wd_ge (T := T) (L := L) (a := sk T L a); omega
  have hwle : sk T L a + wl T L a ≤ L := by rw [← hwl]; exact wd_le hs
  have hal := wAt_len (T := T) (L := L) (a := a)
  have hag : ∀ i, i < wl T L a → (wAt T L a).getD i 0 = T (sk T L a + i) := fun i hi => wAt_get hi
  refine s3_blanks hT (by omega) ?_
  generalize sk T L a = g at *
  generalize wl T L a = w at *
  generalize hbs : wAt T L a = bs at *
  -- the builder takes the letters
  have lp : ∀ u j sh1 bq k N f c n, j + u = w → SBS sh1 bq k N j f → Ext sh sh1 → sh.length ≤ bq → sh.length ≤ k → (∀ i, i < j → f i = nI (T (g + i))) → ((N = 16 ∧ 7 ≤ c) ∨ (N = 34 ∧ 6 ≤ c) ∨ (N = 70 ∧ 5 ≤ c) ∨ (N = 142 ∧ 4 ≤ c) ∨ (N = 286 ∧ 3 ≤ c) ∨ (N = 574 ∧ 2 ≤ c)) → (N = 16 ∨ N ≤ 2 * j) → 5 * w + 40 ≤ n + 2 * N → wX3_word_48 r Q (u + 1) sh1 (cx V r (g + w) g d) R c n bq (nI (g + j)) := by
    intro u
    induction u with
    | zero =>
      intro j sh1 bq k N f c n hj hS hE hb hk hf hcc hNj hnn
      rw [wX3_word_48, cx_a]
      refine br_t (nI_le (by omega) (by omega)) ⟨_, mk_atF hS.1, c, n, 0, 0, by omega, by omega, ?_⟩
      have hjw : j = w := by omega
      subst hjw
      refine s8_toString hS hE (by omega) (by have h6 := hS.2.2.2.2.2.1; have : N ≤ j ∨ j < N := by omega
                                              omega) (fun sh' q q1 f' c1 c2 c3 c4 c5 c6 c7 c8 c9 => ⟨_, _, _, rfl, c6.reg hr, ?_⟩)
      rw [← hwl]
      refine hq sh' q c6 ⟨q1, f', c1, by rw [hal]; exact c2, fun i hi => ?_, by omega, fun i hi => ?_, c4, c5, c9⟩ c7
      · rw [hal] at hi
        rw [c3 i hi, hf i hi, hag i hi]
      · rw [hal] at hi
        rw [hag i hi]
        exact hlow i hi
    | succ u ih =>
      intro j sh1 bq k N f c n hj hS hE hb hk hf hcc hNj hnn
      have hlo := hlow j (by omega)
      have h6 := hS.2.2.2.2.2.1
      rw [wX3_word_48, cx_a]
      refine br_f (nI_ge (by omega) (by omega)) ⟨vp_in_nI (by omega) (by decide), ?_⟩
      rw [nI_clamp (by omega), cx_b (by omega), hT.2.2.2 _ (by omega), show sb (T (g + j)) = nI (T (g + j)) from sb_lo ⟨T (g + j), by omega⟩, pk_char, pk_tn (by omega), Nat.mod_eq_of_lt (by omega)]
      by_cases z : j < N
      · refine ⟨_, mk_atF hS.1, 0, 0, c, n, by omega, by omega, s8_append hS hE hb hk (by omega) (Or.inl z) (by omega) (fun sh' k' N' f' d1 d2 d3 d4 d5 d6 => ⟨_, _, _, rfl, d2.reg hr, nm_r (nI_1 _) ?_⟩)⟩
        have e6 : N' = N := d6.resolve_right (fun q => by omega)
        exact ih (j + 1) sh' bq k' N' f' c n (by omega) d1 d2 hb d3 (fun i hi => by
          rcases Nat.lt_succ_iff_lt_or_eq.mp hi with y | rfl
          · rw [d4 i y, hf i y]
          · exact d5) (by omega) (by omega) (by omega)
      · have hjN : j = N := by omega
        have hN : N ≤ 286 := by omega
        refine ⟨_, mk_atF hS.1, 1, 2 * N + 2, c - 1, n - (2 * N + 2), by omega, by omega, s8_append hS hE hb hk (by omega) (Or.inr ⟨hjN, by omega, by omega⟩) (by omega) (fun sh' k' N' f' d1 d2 d3 d4 d5 d6 => ⟨_, _, _, rfl, d2.reg hr, nm_r (nI_1 _) ?_⟩)⟩
        have d1' := d1
        have h7 := d1.2.2.2.2.2.1
        have e6 : N' = 2 * N + 2 := by rcases d6 with q | q <;> omega
        exact ih (j + 1) sh' bq k' N' f' (c - 1) (n - (2 * N + 2)) (by omega) d1 d2 hb d3 (fun i hi => by
          rcases Nat.lt_succ_iff_lt_or_eq.mp hi with y | rfl
          · rw [d4 i y, hf i y]
          · exact d5) (by omega) (by omega) (by omega)
  -- the reader passes the letters
  suffices H : ∀ u j, j + u = w → wX3_word_4 r Q (u + 1) sh (cx V r (g + j) g d) R c n from ⟨_, H w 0 (by omega)⟩
  intro u
  induction u with
  | zero =>
    intro j hjw
    rw [wX3_word_4, cx_a]
    have no : ¬ (g + j < L ∧ pLo (T (g + j)) = true) := fun q => by
      have h1 := rn_end (p := pLo) (T := T) (L := L) (k := L - g) (a := g) rfl (by show wd T L g < L; omega)
      rw [show rn pLo T (L - g) g = g + j by show wd T L g = _; omega, q.2] at h1
      cases h1
    have ex0 : Ext sh (sh ++ [jF (.inr (16, [.null, .int 0, .int 0, .int 0]))]) := Ext.refl.push
    have out : ∃ c35 n35, c = c35 + 1 ∧ n = n35 + 4 ∧ (∀ q35, q35 = sh.length → (∀ sh35 : List jH, sh35 = sh ++ [jF (.inr (16, [.null, .int 0, .int 0, .int 0]))] → (∃ c139 n139 c239 n239 : Nat, c139 + c239 ≤ c35 ∧ n139 + n239 ≤ n35 ∧ wJ4_init (mk sh35 (cx V r (g + j) g d) R) c139 n139 q35 (fun g39 => (∃ (sh39 : List jH) (V39 : Nat → Nat → Int32) (R39 : Nat → Nat → Option Nat), g39 = mk sh39 V39 R39 ∧ (jReg shX3 sh39 r ∧ (∀ y47 : Int32, y47 = (V39 r 4) → (∃ f9, wX3_word_48 r Q f9 sh39 V39 R39 c239 n239 q35 y47)))))))) := by
      refine ⟨c - 1, n - 4, by omega, by omega, nm_e (nm_e ⟨1, 16, c - 2, n - 20, by omega, by omega, 1, 16, 0, 0, by omega, by omega, br_f (by decide) ⟨by decide, 16, 0, 0, by decide, by decide, rfl, rfl, ?_⟩⟩)⟩
      rw [mk_len]
      refine nm_e ?_
      rw [mk_pushF]
      refine nm_e ?_
      have hl2 : (sh ++ [jF (.inr (16, [.null, .int 0, .int 0, .int 0]))]).length = sh.length + 1 := by rw [List.length_append]; rfl
      have a0 : ((sh ++ [jF (.inr (16, [.null, .int 0, .int 0, .int 0]))]) ++ [jF (.inl (1, 16, .inl (fun _ => 0)))])[sh.length]? = some (jF (.inr (16, [.null, .int 0, .int 0, .int 0]))) := Ext.refl.push _ _ at_push
      have a1 : ((sh ++ [jF (.inr (16, [.null, .int 0, .int 0, .int 0]))]) ++ [jF (.inl (1, 16, .inl (fun _ => 0)))])[(sh ++ [jF (.inr (16, [.null, .int 0, .int 0, .int 0]))]).length]? = some (jF (.inl (1, 16, .inl (fun _ => 0)))) := at_push
      have ex1 : Ext sh ((sh ++ [jF (.inr (16, [.null, .int 0, .int 0, .int 0]))]) ++ [jF (.inl (1, 16, .inl (fun _ => 0)))]) := ex0.push
      rw [hl2] at a1 ⊢
      generalize hs2 : (sh ++ [jF (.inr (16, [.null, .int 0, .int 0, .int 0]))]) ++ [jF (.inl (1, 16, .inl (fun _ => 0)))] = s2 at a0 a1 ex1 ⊢
      refine ⟨_, mk_atF a0, hj, Nat.succ_pos _, ?_⟩
      rw [mk_setF a0]
      have b0 := ats (c := jF (.inr (16, ([Value.null, .int 0, .int 0, .int 0] : List Value).set 0 (.ref (sh.length + 1))))) a0
      have b1 := at_setN (k := sh.length) (c := jF (.inr (16, ([Value.null, .int 0, .int 0, .int 0] : List Value).set 0 (.ref (sh.length + 1))))) a1 (by omega)
      refine nm_e ⟨_, mk_atF b0, hj, by show 1 < 4; decide, ?_⟩
      rw [mk_setF b0]
      have c0 := ats (c := jF (.inr (16, (([Value.null, .int 0, .int 0, .int 0] : List Value).set 0 (.ref (sh.length + 1))).set 1 (.int 0)))) b0
      have c1 := at_setN (k := sh.length) (c := jF (.inr (16, (([Value.null, .int 0, .int 0, .int 0] : List Value).set 0 (.ref (sh.length + 1))).set 1 (.int 0)))) b1 (by omega)
      have ex3 := (ex1.set (k := sh.length) (Nat.le_refl _) (c := jF (.inr (16, ([Value.null, .int 0, .int 0, .int 0] : List Value).set 0 (.ref (sh.length + 1)))))).set (k := sh.length) (Nat.le_refl _) (c := jF (.inr (16, (([Value.null, .int 0, .int 0, .int 0] : List Value).set 0 (.ref (sh.length + 1))).set 1 (.int 0))))
      refine nm_e ⟨_, _, _, rfl, ex3.reg hr, nm_r cx_g ?_⟩
      rw [show g + j = g + w by omega]
      exact ⟨_, lp w 0 _ sh.length (sh.length + 1) 16 (fun _ => 0) (c - 2) (n - 20) (by omega) ⟨c0, c1, hj, by omega, by omega, by omega, by decide, fun _ => (show Jvm.fits .byte (.int 0) = true by decide)⟩ ex3 (Nat.le_refl _) (by omega) (fun i hi => absurd hi (by omega)) (Or.inl ⟨rfl, by omega⟩) (Or.inl rfl) (by omega)⟩
    refine s3_byteAt hT (by omega) ?_
    split
    · next z =>
      have e : inI (sb (T (g + j))) (97 : Int32) (122 : Int32) ↔ _ := sb_in (n := T (g + j)) (lo := 97) (hi := 122) (hT.2.2.1 _ z) (by decide) (by decide)
      refine s1_in ?_
      rw [b2i_f (fun q => no ⟨z, pLo_iff.mpr (e.mp q)⟩)]
      exact br_t rfl out
    · refine s1_in ?_
      rw [b2i_f (by decide)]
      exact br_t rfl out
  | succ u ih =>
    intro j hjw
    rw [wX3_word_4, cx_a]
    refine s3_byteAt hT (by omega) ?_
    rw [if_pos (by omega)]
    have hlo := hlow j (by omega)
    have e : inI (sb (T (g + j))) (97 : Int32) (122 : Int32) ↔ _ := sb_in (n := T (g + j)) (lo := 97) (hi := 122) (hT.2.2.1 _ (by omega)) (by decide) (by decide)
    refine s1_in ?_
    rw [show b2i (inI (sb (T (g + j))) (97 : Int32) (122 : Int32)) = 1 from b2i_t (e.mpr hlo)]
    refine br_f (by decide) (nm_r (nI_1 _) ?_)
    rw [cxs_a]
    exact ih (j + 1) (by omega)
theorem s3_passes {k : Nat} {w : List Nat} {Q : Int32 → List jH → (Nat → Nat → Int32) → (Nat → Nat → Option Nat) → Prop} (hk : k ≤ 64) (hC : ConSh sh) (hS : ∀ sh', ConSh sh' → ∀ V R, StrG (mk sh' V R) k w) (hr : jReg shX3 sh r) (hT : TxtC V r T L) (ha : a ≤ L) (hc : 10 ≤ c) (hn : 64 + 5 * wl T L a ≤ n) (hq : ∀ sh', Ext sh sh' → if isW w T L a = true then Q 1 sh' (cx V r (afW w T L a) (sk T L a) d) R else Q 0 sh' (cx V r (sk T L a) (sk T L a) d) R) : wX3_passes r sh (cx V r a b d) R c n k Q := by
  refine ⟨c, n, 0, 0, by omega, by omega, s3_word hr hT ha hc hn (fun sh' q he hw hl => ⟨he.reg hr, q, rfl, _, mk_atF hw.choose_spec.choose_spec.1, ?_⟩)⟩
  have hjq : jn ≤ q := hw.choose_spec.choose_spec.2.2.2.2.2.1
  refine s5_equals hw.g (hS sh' (he.con hC) _ _) (Or.inr (Or.inl ⟨hjq, hk⟩)) ?_
  have h9 := hq sh' he
  by_cases z : isW w T L a = true
  · rw [if_pos z] at h9
    rw [b2i_t (isW_at.mp z)]
    refine br_f (by decide) ?_
    rw [← afW_yes z]
    exact h9
  · rw [if_neg z] at h9
    rw [b2i_f (fun q => z (isW_at.mpr q))]
    refine br_t rfl (nm_r cx_g ?_)
    rw [cxs_a]
    exact h9
/-- what is wrong is thrown, and begins there -/
abbrev bC (X : String → List jH → (Nat → Nat → Int32) → (Nat → Nat → Option Nat) → Prop) (sh : List jH) (V : Nat → Nat → Int32) (R : Nat → Nat → Option Nat) (r b : Nat) : Prop := ∀ sh' a2 d2, Ext sh sh' → X "VisitingHours$Wrong" sh' (cx V r a2 b d2) R
theorem bC.ext {X : String → List jH → (Nat → Nat → Int32) → (Nat → Nat → Option Nat) → Prop} {sh1 : List jH} (h : bC X sh V R r b) (he : Ext sh sh1) : bC X sh1 V R r b := fun sh' a2 d2 h2 => h sh' a2 d2 (he.trans h2)
end CW
