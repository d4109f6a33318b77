/-! ===== PURE: the component reads the law ===== -/
section LT
variable {sh s : List jH} {V : Nat → Nat → Int32} {R : Nat → Nat → Option Nat} {x a b L c n q0 : Nat} {T : Nat → Nat} {X : String → List jH → (Nat → Nat → Int32) → (Nat → Nat → Option Nat) → Prop}
theorem s8_lawInit {Q : List jC → Prop} (hE : Ext sh s) (hj : jn ≤ sh.length) (hq0 : sh.length ≤ q0) (h0 : s[q0]? = some (jF (.inr (7, [.null])))) (hc : 1 ≤ c) (hn : 3 ≤ n) (hq : ∀ s' h, Ext sh s' → s'[q0]? = some (jF (.inr (7, [.ref h]))) → ListS s' h 64 [] → sh.length ≤ h → s.length ≤ h → (∀ j t, j ≠ q0 → s[j]? = some t → s'[j]? = some t) → s'.length = s.length + 1 → Q (mk s' V R)) : wX8_init (mk s V R) c n q0 Q := by
  have hq0l := (List.getElem?_eq_some_iff.mp h0).1
  have hle := hE.len
  refine ⟨c - 1, n - 3, by omega, by omega, ?_⟩
  rw [mk_len]
  refine nm_e ?_
  rw [mk_pushF]
  refine nm_e ?_
  have ex : Ext s (s ++ [jF (.inr (15, [.int 0, .null, .int 0]))]) := Ext.refl.push
  refine putF at_push (hE.trans ex) hle (by omega) (Nat.le_of_ble_eq_true rfl) (fun s1 e1 a1 f1 l1 => ?_)
  refine putF a1 e1 hle (by omega) (Nat.le_of_ble_eq_true rfl) (fun s2 e2 a2 f2 l2 => ?_)
  have b2 := f2 _ _ (by omega) (f1 _ _ (by omega) (ex _ _ h0))
  refine putF b2 e2 hq0 (by omega) (Nat.le_of_ble_eq_true rfl) (fun s3 e3 a3 f3 l3 => ?_)
  have b3 := f3 _ _ (by omega) a2
  refine hq s3 s.length e3 a3 ⟨by omega, ⟨0, b3⟩, Or.inl ⟨rfl, rfl⟩⟩ hle (Nat.le_refl _) (fun j t z ht => ?_) (by rw [l3, l2, l1, List.length_append]; rfl)
  have hjl := (List.getElem?_eq_some_iff.mp ht).1
  exact f3 j t z (f2 j t (by omega) (f1 j t (by omega) (ex _ _ ht)))
theorem s1_goesOn {Q : Int32 → List jH → (Nat → Nat → Int32) → (Nat → Nat → Option Nat) → Prop} (hX : jReg shX1 sh x) (hT : TxtC V (x + 109) T L) (ha : a ≤ L) (hc : 1 ≤ c) (hn : 6 ≤ n) (hq : if sk T L a = L then Q 0 sh (cx V (x + 109) (sk T L a) (sk T L a) 0) R else if isS 59 T L a = true then Q 1 sh (cx V (x + 109) (sk T L a + 1) (sk T L a) 0) R else bC X sh V R (x + 109) (sk T L a)) : wX1_goesOn x sh (cx V (x + 109) a b 0) R c n Q X := by
  have hs := sk_le (T := T) ha
  refine s3_isOver hT ha ?_
  by_cases z : sk T L a = L
  · rw [if_pos z] at hq ⊢
    exact ⟨fun w => absurd w (by decide), fun _ => hq⟩
  · rw [if_neg z] at hq ⊢
    refine ⟨fun _ => s3_sign (by decide) hT hs ?_, fun w => absurd rfl w⟩
    rw [isS_sk, sk_sk]
    by_cases z2 : isS 59 T L a = true
    · rw [if_pos z2] at hq ⊢
      exact ⟨fun w => absurd w (by decide), fun _ => hq⟩
    · rw [if_neg z2] at hq ⊢
      exact ⟨fun _ => s1_wrongT (r0 := 0) hX hc hn hq, fun w => absurd rfl w⟩
theorem s1_noMore {Q : List jH → (Nat → Nat → Int32) → (Nat → Nat → Option Nat) → Prop} {u m : Nat} (hX : jReg shX1 sh x) (hT : TxtC V (x + 109) T L) (ha : a ≤ L) (hu : u < 1000) (hm : m < 1000) (hc : m ≤ u → 11 ≤ c ∧ 70 + 5 * wl T L a ≤ n) (hq : if m ≤ u then bC X sh V R (x + 109) (sk T L a) else Q sh (cx V (x + 109) a b 0) R) : wX1_noMore x sh (cx V (x + 109) a b 0) R c n (nI u) (nI m) Q X := by
  refine ⟨fun z => ?_, fun z => ?_⟩
  · have zm := (nI_leI (by omega) (by omega)).mp z
    have hcn := hc zm
    rw [if_pos zm] at hq
    exact ⟨10, 64 + 5 * wl T L a, 1, 6, by omega, by omega, s3_word (reg3 hX) hT ha (by decide) (Nat.le_refl _) (fun s1 q1 e1 w1 l1 => ⟨e1.reg hX, s1_wrongT (r0 := 0) (e1.reg hX) (by decide) (by decide) (bC.ext hq e1)⟩)⟩
  · rw [if_neg (fun w => z ((nI_leI (by omega) (by omega)).mpr w))] at hq
    exact hq
theorem pLawL_en {u : Nat} {l : List Ln} (ha : a ≤ L) : a ≤ en L (pLawL T L u l a) ∧ en L (pLawL T L u l a) ≤ L := by
  revert l a
  induction u with
  | zero => intro a l ha; exact ⟨ha, Nat.le_refl _⟩
  | succ u ih =>
    intro a l ha
    unfold pLawL
    split
    · exact ⟨ha, Nat.le_refl _⟩
    · have hf := pLine_fw (T := T) ha
      rcases hr : pLine T L a with b | ⟨ln, e⟩
      · exact ⟨ha, Nat.le_refl _⟩
      · rw [hr] at hf
        have he : a < e ∧ e ≤ L := hf
        show a ≤ en L (if sk T L e = L then (.inr (l ++ [ln], L) : Pz (List Ln)) else if isS 59 T L e = true then pLawL T L u (l ++ [ln]) (sk T L e + 1) else .inl (sk T L e)) ∧ en L (if sk T L e = L then (.inr (l ++ [ln], L) : Pz (List Ln)) else if isS 59 T L e = true then pLawL T L u (l ++ [ln]) (sk T L e + 1) else .inl (sk T L e)) ≤ L
        split
        · exact ⟨ha, Nat.le_refl _⟩
        · split
          · next z =>
            have hlt := (isS_iff.mp z).1
            have hse := sk_ge (T := T) (L := L) (a := e)
            have := ih (a := sk T L e + 1) (l := l ++ [ln]) (by omega)
            omega
          · exact ⟨ha, Nat.le_refl _⟩
theorem s1_lawText {Q : Option Nat → List jH → (Nat → Nat → Int32) → (Nat → Nat → Option Nat) → Prop} (hX : jReg shX1 sh x) (hC : ConSh sh) (hT : TxtC V (x + 109) T L) (hc : 400 + 800 * L ≤ c) (hn : 4000 + 4000 * L ≤ n) (hq : pO (pLaw T L) (fun b => bC X sh V R (x + 109) b) (fun ls _ => ∀ sh' k p bg, Ext sh sh' → sh.length ≤ k → Den sh' (fun j => sh.length ≤ j) (LawF k ls) → Q (some k) sh' (cx V (x + 109) p bg 0) R)) : wX1_lawText x sh (cx V (x + 109) 0 b 0) R c n Q X := by
  have hj := reg_l1 hX
  have hL := hT.1
  have hs := sk_le (T := T) (Nat.zero_le L)
  refine ⟨c - 1, n - 1, by omega, by omega, nm_e (nm_e ⟨1, 3, c - 2, n - 4, by omega, by omega, ?_⟩)⟩
  refine s8_lawInit (q0 := sh.length) Ext.refl.push hj (Nat.le_refl _) at_push (by omega) (by omega) (fun s4 h e4 z0 zL hh hh2 _ _ => ⟨s4, _, _, rfl, e4.reg hX, ?_⟩)
  have hne : sh.length < h := by rw [List.length_append] at hh2; exact hh2
  have step : ∀ (u : Nat), (∀ u', u = u' + 1 → ∀ (s : List jH) (k : Nat) (ids : List Nat) (l : List Ln) (p bg c n : Nat), l.length + u' = 12 → p ≤ L → Ext sh s → s[sh.length]? = some (jF (.inr (7, [.ref h]))) → ListS s h k ids → (k = 64 ∨ sh.length ≤ k) → ∀ S : Nat → Prop, (∀ j, S j → sh.length ≤ j ∧ j < s.length ∧ j ≠ h ∧ j ≠ k) → ids.length = l.length → (∀ i, i < ids.length → Den s S (LineF (ids.getD i 0) (l.getD i (0, 0, fun _ => false)))) → 800 * (en L (pLawL T L (u' + 1) l p) - p) + 300 ≤ c → 4000 * (en L (pLawL T L (u' + 1) l p) - p) + 3000 ≤ n → pO (pLawL T L (u' + 1) l p) (fun b => bC X sh V R (x + 109) b) (fun ls _ => ∀ sh' k p bg, Ext sh sh' → sh.length ≤ k → Den sh' (fun j => sh.length ≤ j) (LawF k ls) → Q (some k) sh' (cx V (x + 109) p bg 0) R) → wX1_lawText_20 x Q X (u' + 1) s (cx V (x + 109) p bg 0) R c n sh.length) → ∀ (s : List jH) (k : Nat) (ids : List Nat) (l : List Ln) (p bg c n : Nat), l.length + u = 12 → p ≤ L → Ext sh s → s[sh.length]? = some (jF (.inr (7, [.ref h]))) → ListS s h k ids → (k = 64 ∨ sh.length ≤ k) → ∀ S : Nat → Prop, (∀ j, S j → sh.length ≤ j ∧ j < s.length ∧ j ≠ h ∧ j ≠ k) → ids.length = l.length → (∀ i, i < ids.length → Den s S (LineF (ids.getD i 0) (l.getD i (0, 0, fun _ => false)))) → 800 * (en L (pLawL T L (u + 1) l p) - p) + 300 ≤ c → 4000 * (en L (pLawL T L (u + 1) l p) - p) + 3000 ≤ n → pO (pLawL T L (u + 1) l p) (fun b => bC X sh V R (x + 109) b) (fun ls _ => ∀ sh' k p bg, Ext sh sh' → sh.length ≤ k → Den sh' (fun j => sh.length ≤ j) (LawF k ls) → Q (some k) sh' (cx V (x + 109) p bg 0) R) → wX1_lawText_20 x Q X (u + 1) s (cx V (x + 109) p bg 0) R c n sh.length := by
    intro u ih s k ids l p bg c n hu hp hE hz hLi hk S hS hlen hD hc hn hq
    obtain ⟨hhj, ⟨v, lv⟩, hLr⟩ := id hLi
    have hwp := wl_le (T := T) hp
    have hsp := sk_ge (T := T) (L := L) (a := p)
    have hspl := sk_le (T := T) hp
    have hpen := pLawL_en (T := T) (u := u + 1) (l := l) hp
    refine ⟨_, mk_atF hz, by omega, some h, rfl, h, rfl, _, mk_atF lv, ⟨_, mk_atF lv, hhj, nI ids.length, rfl, ?_⟩⟩
    unfold pLawL at hq hc hn hpen
    by_cases h12 : l.length = 12
    · rw [if_pos h12] at hq hc hn
      have hc1 : 800 * (L - p) + 300 ≤ c := hc
      have hn1 : 4000 * (L - p) + 3000 ≤ n := hn
      refine ⟨c, n, 0, 0, by omega, by omega, s1_noMore (m := 12) (hE.reg hX) hT hp (by omega) (by decide) (fun _ => by omega) ?_⟩
      rw [if_pos (by omega)]
      exact bC.ext hq hE
    · rw [if_neg h12] at hq hc hn hpen
      have hlf := pLine_fw (T := T) hp
      obtain ⟨c1, hc1⟩ : ∃ c1, c1 = 200 + 800 * (en L (pLine T L p) - p) := ⟨_, rfl⟩
      obtain ⟨n1, hn1⟩ : ∃ n1, n1 = 2000 + 4000 * (en L (pLine T L p) - p) + 10 * twl T L (pLine T L p) := ⟨_, rfl⟩
      rcases hr : pLine T L p with bb | ⟨ln, e⟩
      · rw [hr] at hq hc hn hc1 hn1
        have hc2 : 800 * (L - p) + 300 ≤ c := hc
        have hn2 : 4000 * (L - p) + 3000 ≤ n := hn
        have hc3 : c1 = 200 + 800 * (L - p) := hc1
        have hn3 : n1 = 2000 + 4000 * (L - p) + 10 * 0 := hn1
        refine ⟨0, 0, c1, n1, by omega, by omega, s1_noMore (m := 12) (hE.reg hX) hT hp (by omega) (by decide) (fun w => by omega) ?_⟩
        rw [if_neg (by omega)]
        refine ⟨hE.reg hX, _, mk_atF hz, by omega, some h, rfl, c1, n1, 0, 0, by omega, by omega, s1_lawLine (hE.reg hX) (hE.con hC) hT hp (by rw [hr]; exact Nat.le_of_eq hc3.symm) (by rw [hr]; exact Nat.le_of_eq hn3.symm) ?_⟩
        rw [hr]
        exact bC.ext (show bC X sh V R (x + 109) bb from hq) hE
      · rw [hr] at hq hc hn hc1 hn1 hlf hpen
        have he : p < e ∧ e ≤ L := hlf
        have hse := sk_ge (T := T) (L := L) (a := e)
        have hsel := sk_le (T := T) he.2
        have hwe := wl_le (T := T) he.2
        have hc3 : c1 = 200 + 800 * (e - p) := hc1
        have hn3 : n1 = 2000 + 4000 * (e - p) + 10 * wl T L e := hn1
        have hq1 : pO (if sk T L e = L then (.inr (l ++ [ln], L) : Pz (List Ln)) else if isS 59 T L e = true then pLawL T L u (l ++ [ln]) (sk T L e + 1) else .inl (sk T L e)) (fun b => bC X sh V R (x + 109) b) (fun ls _ => ∀ sh' k p bg, Ext sh sh' → sh.length ≤ k → Den sh' (fun j => sh.length ≤ j) (LawF k ls) → Q (some k) sh' (cx V (x + 109) p bg 0) R) := hq
        have hc2 : 800 * (en L (if sk T L e = L then (.inr (l ++ [ln], L) : Pz (List Ln)) else if isS 59 T L e = true then pLawL T L u (l ++ [ln]) (sk T L e + 1) else .inl (sk T L e)) - p) + 300 ≤ c := hc
        have hn2 : 4000 * (en L (if sk T L e = L then (.inr (l ++ [ln], L) : Pz (List Ln)) else if isS 59 T L e = true then pLawL T L u (l ++ [ln]) (sk T L e + 1) else .inl (sk T L e)) - p) + 3000 ≤ n := hn
        clear hq hc hn hpen
        have hwe0 : sk T L e = L → wl T L e = 0 := fun z => wl_end z
        have bud : (c1 + 2 ≤ c ∧ n1 + 40 ≤ n) ∧ (¬ sk T L e = L → isS 59 T L e = true → 800 * (en L (pLawL T L u (l ++ [ln]) (sk T L e + 1)) - (sk T L e + 1)) + 300 ≤ c - c1 - 2 ∧ 4000 * (en L (pLawL T L u (l ++ [ln]) (sk T L e + 1)) - (sk T L e + 1)) + 3000 ≤ n - n1 - 40) := by
          by_cases y1 : sk T L e = L
          · rw [if_pos y1] at hc2 hn2
            have a1 : 800 * (L - p) + 300 ≤ c := hc2
            have a2 : 4000 * (L - p) + 3000 ≤ n := hn2
            have := hwe0 y1
            exact ⟨by omega, fun q => absurd y1 q⟩
          rw [if_neg y1] at hc2 hn2
          by_cases y2 : isS 59 T L e = true
          · rw [if_pos y2] at hc2 hn2
            have w0 := twl_0 y2 (by decide)
            have hlt := (isS_iff.mp y2).1
            have := (pLawL_en (T := T) (L := L) (u := u) (l := l ++ [ln]) (a := sk T L e + 1) (by omega)).1
            exact ⟨by omega, fun _ _ => by omega⟩
          · rw [if_neg y2] at hc2 hn2
            have a1 : 800 * (L - p) + 300 ≤ c := hc2
            have a2 : 4000 * (L - p) + 3000 ≤ n := hn2
            exact ⟨by omega, fun _ q => absurd q y2⟩
        clear hc2 hn2
        have b1 := bud.1
        refine ⟨0, 0, c, n, by omega, by omega, s1_noMore (m := 12) (hE.reg hX) hT hp (by omega) (by decide) (fun w => by omega) ?_⟩
        rw [if_neg (by omega)]
        refine ⟨hE.reg hX, _, mk_atF hz, by omega, some h, rfl, c1, n1, c - c1, n - n1, by omega, by omega, s1_lawLine (hE.reg hX) (hE.con hC) hT hp (by rw [hr]; exact Nat.le_of_eq hc3.symm) (by rw [hr]; exact Nat.le_of_eq hn3.symm) ?_⟩
        rw [hr]
        intro s1 y1 bg1 e1 hy1 ob1 dn1
        refine ⟨(hE.trans e1).reg hX, y1, rfl, h, rfl, _, mk_atF (e1 _ _ lv), 1, 10 + 2 * ids.length, c - c1 - 1, n - n1 - (10 + 2 * ids.length), by omega, by omega, ?_⟩
        refine s8_addD hC hj hE hLi hh hk hS e1 ob1 dn1 (by omega) (by omega) (by omega) (fun s2 k2 S2 g1 g2 g3 g4 g5 g6 g7 g8 g9 => ⟨s2, _, _, rfl, g1.reg hX, ?_⟩)
        have hz2 : s2[sh.length]? = some (jF (.inr (7, [.ref h]))) := g7 _ _ (by omega) (fun q => by
          rcases hLi.2.2 with ⟨z, -⟩ | ⟨-, -, N, f, z, -⟩
          · have h70 : jn = 70 := rfl
            omega
          · rw [← q, hz] at z; cases z) (e1 _ _ hz)
        have hlen2 : (ids ++ [y1]).length = (l ++ [ln]).length := by rw [List.length_append, List.length_append, hlen]; rfl
        have hl1 : (l ++ [ln]).length = l.length + 1 := by rw [List.length_append]; rfl
        have hD2 : ∀ i, i < (ids ++ [y1]).length → Den s2 S2 (LineF ((ids ++ [y1]).getD i 0) ((l ++ [ln]).getD i (0, 0, fun _ => false))) := by
          intro i hi
          rw [getD_app]
          by_cases z : i < ids.length
          · rw [if_pos z, List.getD_eq_getElem?_getD (l := l ++ [ln]), List.getElem?_append_left (by omega), ← List.getD_eq_getElem?_getD]
            exact g5 _ (hD i z)
          · have zi : i = ids.length := by omega
            rw [if_neg z, if_pos zi, List.getD_eq_getElem?_getD (l := l ++ [ln]), List.getElem?_append_right (by omega), show i - l.length = 0 by omega]
            exact g6
        refine ⟨1, 6, c - c1 - 2, n - n1 - 40, by omega, by omega, ?_⟩
        show wX1_goesOn x s2 (cx V (x + 109) e bg1 0) R 1 6 _ _
        refine s1_goesOn (g1.reg hX) hT he.2 (by decide) (by decide) ?_
        by_cases y3 : sk T L e = L
        · rw [if_pos y3] at hq1 ⊢
          exact ⟨g1.reg hX, fun w => absurd rfl w, fun _ => hq1 s2 sh.length _ _ g1 (Nat.le_refl _) (den_law hj (Nat.le_refl _) hh g3 hz2 g2 hlen2 (by omega) (fun j hj => (g4 j hj).1) hD2)⟩
        rw [if_neg y3] at hq1 ⊢
        by_cases y4 : isS 59 T L e = true
        · rw [if_pos y4] at hq1 ⊢
          obtain ⟨u2, rfl⟩ : ∃ u2, u = u2 + 1 := ⟨u - 1, by omega⟩
          have hlt := (isS_iff.mp y4).1
          have b2 := bud.2 y3 y4
          exact ⟨g1.reg hX, fun _ => ih u2 rfl s2 k2 (ids ++ [y1]) (l ++ [ln]) (sk T L e + 1) _ _ _ (by omega) (by omega) g1 hz2 g2 g3 S2 g4 hlen2 hD2 b2.1 b2.2 hq1, fun w => absurd w (by decide)⟩
        · rw [if_neg y4] at hq1 ⊢
          exact bC.ext (show bC X sh V R (x + 109) (sk T L e) from hq1) g1
  have lp := fun u => Nat.rec (motive := fun u => ∀ (s : List jH) (k : Nat) (ids : List Nat) (l : List Ln) (p bg c n : Nat), l.length + u = 12 → p ≤ L → Ext sh s → s[sh.length]? = some (jF (.inr (7, [.ref h]))) → ListS s h k ids → (k = 64 ∨ sh.length ≤ k) → ∀ S : Nat → Prop, (∀ j, S j → sh.length ≤ j ∧ j < s.length ∧ j ≠ h ∧ j ≠ k) → ids.length = l.length → (∀ i, i < ids.length → Den s S (LineF (ids.getD i 0) (l.getD i (0, 0, fun _ => false)))) → 800 * (en L (pLawL T L (u + 1) l p) - p) + 300 ≤ c → 4000 * (en L (pLawL T L (u + 1) l p) - p) + 3000 ≤ n → pO (pLawL T L (u + 1) l p) (fun b => bC X sh V R (x + 109) b) (fun ls _ => ∀ sh' k p bg, Ext sh sh' → sh.length ≤ k → Den sh' (fun j => sh.length ≤ j) (LawF k ls) → Q (some k) sh' (cx V (x + 109) p bg 0) R) → wX1_lawText_20 x Q X (u + 1) s (cx V (x + 109) p bg 0) R c n sh.length) (step 0 (fun u' h => absurd h (by omega))) (fun u ih => step (u + 1) (fun u' h => (Nat.succ.inj h) ▸ ih)) u
  unfold pLaw at hq
  refine s3_isOver hT (Nat.zero_le _) ?_
  by_cases z : sk T L 0 = L
  · rw [if_neg (by omega)] at hq
    rw [if_pos z]
    exact ⟨fun w => absurd w (by decide), fun _ => hq s4 sh.length _ _ e4 (Nat.le_refl _) (den_law (ids := []) (S := fun _ => False) hj (Nat.le_refl _) hh (Or.inl rfl) z0 zL rfl (Nat.zero_le _) (fun j hj => hj.elim) (fun i hi => absurd hi (by simp)))⟩
  · rw [if_pos (by omega)] at hq
    rw [if_neg z]
    have hen := pLawL_en (T := T) (L := L) (u := 12 + 1) (l := []) hs
    exact ⟨fun _ => ⟨13, lp 12 s4 64 [] [] (sk T L 0) _ (c - 2) (n - 4) rfl hs e4 z0 zL (Or.inl rfl) (fun _ => False) (fun j z => z.elim) rfl (fun i hi => absurd hi (by simp)) (by omega) (by omega) hq⟩, fun w => absurd rfl w⟩
end LT
