/-! ===== PURE: the component reads a sum ===== -/
section SV
variable {sh : List jH} {V : Nat → Nat → Int32} {R : Nat → Nat → Option Nat} {x a b d L c n : Nat} {T : Nat → Nat} {X : String → List jH → (Nat → Nat → Int32) → (Nat → Nat → Option Nat) → Prop}
theorem pO_en {α : Type} {r : Pz α} {L a : Nat} (h : fw0 L a r) (ha : a ≤ L) : a ≤ en L r ∧ en L r ≤ L := by
  rcases r with b | ⟨v, e⟩
  · exact ⟨ha, Nat.le_refl _⟩
  · exact h
theorem en_B {α β : Type} {r : Pz α} {k : α → Nat → Pz β} {L : Nat} : en L (pB r k) = match r with
    | .inl _ => L
    | .inr z => en L (k z.1 z.2) := by
  cases r <;> rfl
theorem s1_sum {Q : Option Nat → List jH → (Nat → Nat → Int32) → (Nat → Nat → Option Nat) → Prop} (hX : jReg shX1 sh x) (hC : ConSh sh) (hT : TxtC V (x + 109) T L) (ha : a ≤ L) (hc : 30 + 800 * (en L (pSum T L a) - a) ≤ c) (hn : 200 + 3000 * (en L (pSum T L a) - a) ≤ n) (hq : pO (pSum T L a) (fun b => bC X sh V R (x + 109) b) (fun y e => ∀ sh' k bg, Ext sh sh' → sh.length ≤ k → Den sh' (fun j => sh.length ≤ j) (SumF k y) → Q (some k) sh' (cx V (x + 109) e bg d) R)) : wX1_sum x sh (cx V (x + 109) a b d) R c n Q X := by
  have hj := reg_l1 hX
  have hL := hT.1
  refine ⟨c - 1, n - 1, by omega, by omega, nm_e (nm_e ⟨1, 3, c - 2, n - 4, by omega, by omega, ?_⟩)⟩
  refine s8_sumInit (q0 := sh.length) Ext.refl.push hj (Nat.le_refl _) at_push (by omega) (by omega) (fun s4 h e4 z0 zL hh hh2 _ _ => ⟨s4, _, _, rfl, e4.reg hX, ?_⟩)
  have hne : sh.length < h := by rw [List.length_append] at hh2; exact hh2
  -- the loop
  have lp : ∀ (u : Nat) (s : List jH) (k : Nat) (ids : List Nat) (xs : List Ev) (p bg c n : Nat), L ≤ p + u → p ≤ L → Ext sh s → s[sh.length]? = some (jF (.inr (12, [.ref h]))) → ListS s h k ids → (k = 64 ∨ sh.length ≤ k) → ∀ S : Nat → Prop, (∀ j, S j → sh.length ≤ j ∧ j < s.length ∧ j ≠ h ∧ j ≠ k) → ids.length = xs.length → ids.length ≤ p → (∀ i, i < ids.length → Den s S (PartF (ids.getD i 0) (xs.getD i (fun _ => 0)))) → 800 * (en L (pB (pPart T L p) (fun y a1 => pSumL T L u (fun F => xs.foldl (fun v e => v + e F) 0 + y F) a1)) - p) + 21 ≤ c → 3000 * (en L (pB (pPart T L p) (fun y a1 => pSumL T L u (fun F => xs.foldl (fun v e => v + e F) 0 + y F) a1)) - p) + 110 + 2 * ids.length ≤ n →
      pO (pB (pPart T L p) (fun y a1 => pSumL T L u (fun F => xs.foldl (fun v e => v + e F) 0 + y F) a1)) (fun b => bC X sh V R (x + 109) b) (fun y e => ∀ sh' k bg, Ext sh sh' → sh.length ≤ k → Den sh' (fun j => sh.length ≤ j) (SumF k y) → Q (some k) sh' (cx V (x + 109) e bg d) R) → wX1_sum_8 x Q X (u + 1) s (cx V (x + 109) p bg d) R c n sh.length := by
    intro u
    induction u with
    | zero =>
      intro s k ids xs p bg c n hu hp hE hz hLi hk S hS hlen hidp hD hc hn hq
      have hfw := pPart_fw (T := T) hp
      refine ⟨_, mk_atF hz, by omega, some h, rfl, 20, 100, c - 20, n - 100, by omega, by omega, s1_onePart (hE.reg hX) (hE.con hC) hT hp (by omega) ?_ ?_⟩
      · have := pO_en (pO_mono hfw (fun _ z => z) (fun _ _ z => ⟨by omega, z.2⟩)) hp
        omega
      · refine pO_mono (pO_and (pO_B hq) hfw) (fun b hb => hb.1.ext hE) (fun y e hy => ?_)
        omega
    | succ u ih =>
      intro s k ids xs p bg c n hu hp hE hz hLi hk S hS hlen hidp hD hc hn hq
      have hfw := pPart_fw (T := T) hp
      have hen1 := pO_en (pO_mono hfw (fun _ z => z) (fun _ _ z => ⟨by omega, z.2⟩)) hp
      have hen2 : en L (pPart T L p) ≤ en L (pB (pPart T L p) (fun y a1 => pSumL T L (u + 1) (fun F => xs.foldl (fun v e => v + e F) 0 + y F) a1)) := by
        rw [en_B]
        rcases hr : pPart T L p with b | ⟨y, e⟩
        · exact Nat.le_refl _
        · rw [hr] at hfw
          have h2 : p < e ∧ e ≤ L := hfw
          exact (pO_en (pSumL_fw h2.2) h2.2).1
      obtain ⟨m1, hm1⟩ : ∃ m1, m1 = 100 + 5 * (en L (pPart T L p) - p) := ⟨_, rfl⟩
      refine ⟨_, mk_atF hz, by omega, some h, rfl, 20, m1, c - 20, n - m1, by omega, by omega, s1_onePart (hE.reg hX) (hE.con hC) hT hp (by omega) (by omega) ?_⟩
      have hq0 := pO_B hq
      rw [en_B] at hc hn
      rcases hr : pPart T L p with b | ⟨y, e⟩
      · rw [hr] at hq0
        exact bC.ext (show bC X sh V R (x + 109) b from hq0) hE
      · rw [hr] at hq0 hc hn hm1 hfw
        have he : p < e ∧ e ≤ L := hfw
        have hq1 : pO (pSumL T L (u + 1) (fun F => xs.foldl (fun v e => v + e F) 0 + y F) e) (fun b => bC X sh V R (x + 109) b) (fun y e => ∀ sh' k bg, Ext sh sh' → sh.length ≤ k → Den sh' (fun j => sh.length ≤ j) (SumF k y) → Q (some k) sh' (cx V (x + 109) e bg d) R) := hq0
        have hc1 : 800 * (en L (pSumL T L (u + 1) (fun F => xs.foldl (fun v e => v + e F) 0 + y F) e) - p) + 21 ≤ c := hc
        have hn1 : 3000 * (en L (pSumL T L (u + 1) (fun F => xs.foldl (fun v e => v + e F) 0 + y F) e) - p) + 110 + 2 * ids.length ≤ n := hn
        have hm2 : m1 = 100 + 5 * (e - p) := hm1
        have henl := pO_en (pSumL_fw (T := T) (L := L) (k := u + 1) (x := fun F => xs.foldl (fun v e => v + e F) 0 + y F) he.2) he.2
        intro s1 y1 bg1 e1 hy1 hy2 ob1 dn1
        refine ⟨(hE.trans e1).reg hX, y1, rfl, h, rfl, ?_⟩
        obtain ⟨v, lv⟩ := hLi.2.1
        refine ⟨_, mk_atF (e1 _ _ lv), 1, 10 + 2 * ids.length, c - 21, n - m1 - (10 + 2 * ids.length), by omega, by omega, ?_⟩
        refine s8_addD hC hj hE hLi hh hk hS e1 ob1 dn1 (by omega) (by omega) (by omega) (fun s2 k2 S2 g1 g2 g3 g4 g5 g6 g7 g8 g9 => ⟨s2, _, _, rfl, g1.reg hX, ?_⟩)
        have hz2 : s2[sh.length]? = some (jF (.inr (12, [.ref h]))) := g7 _ _ (by omega) (fun q => by
          rcases hLi.2.2 with ⟨z, -⟩ | ⟨-, -, N, f, z, -⟩
          · have h70 : jn = 70 := rfl
            omega
          · rw [← q, hz] at z; cases z) (e1 _ _ hz)
        have hlen2 : (ids ++ [y1]).length = (xs ++ [y]).length := by rw [List.length_append, List.length_append, hlen]; rfl
        have hl1 : (ids ++ [y1]).length = ids.length + 1 := by rw [List.length_append]; rfl
        have hD2 : ∀ i, i < (ids ++ [y1]).length → Den s2 S2 (PartF ((ids ++ [y1]).getD i 0) ((xs ++ [y]).getD i (fun _ => 0))) := by
          intro i hi
          rw [getD_app]
          by_cases z : i < ids.length
          · rw [if_pos z, List.getD_eq_getElem?_getD (l := xs ++ [y]), List.getElem?_append_left (by omega), ← List.getD_eq_getElem?_getD]
            exact g5 _ (hD i z)
          · have zi : i = ids.length := by omega
            rw [if_neg z, if_pos zi, List.getD_eq_getElem?_getD (l := xs ++ [y]), List.getElem?_append_right (by omega), show i - xs.length = 0 by omega]
            exact g6
        have hx2 : (fun F => xs.foldl (fun v e => v + e F) (0 : Int32) + y F) = (fun F => (xs ++ [y]).foldl (fun v e => v + e F) 0) := by
          funext F
          rw [List.foldl_append]
          rfl
        have hse := sk_ge (T := T) (L := L) (a := e)
        unfold pSumL at hq1 hc1 hn1
        refine s3_sign (by decide) hT he.2 ?_
        split
        · next z =>
          have hlt : sk T L e < L := (isS_iff.mp z).1
          rw [if_pos z] at hq1 hc1 hn1
          rw [hx2] at hq1 hc1 hn1
          have hc2 : 800 * (en L (pB (pPart T L (sk T L e + 1)) (fun y9 a1 => pSumL T L u (fun F => (xs ++ [y]).foldl (fun v e => v + e F) 0 + y9 F) a1)) - p) + 21 ≤ c := hc1
          have hn2 : 3000 * (en L (pB (pPart T L (sk T L e + 1)) (fun y9 a1 => pSumL T L u (fun F => (xs ++ [y]).foldl (fun v e => v + e F) 0 + y9 F) a1)) - p) + 110 + 2 * ids.length ≤ n := hn1
          clear hc1 hn1
          have mono2 : sk T L e + 1 ≤ en L (pB (pPart T L (sk T L e + 1)) (fun y9 a1 => pSumL T L u (fun F => (xs ++ [y]).foldl (fun v e => v + e F) 0 + y9 F) a1)) := by
            rw [en_B]
            have hfw2 := pPart_fw (T := T) (L := L) (a := sk T L e + 1) (by omega)
            rcases hr2 : pPart T L (sk T L e + 1) with b | ⟨y2, e2⟩
            · show sk T L e + 1 ≤ L
              omega
            · rw [hr2] at hfw2
              have h2 : sk T L e + 1 < e2 ∧ e2 ≤ L := hfw2
              exact Nat.le_trans (by omega : sk T L e + 1 ≤ e2) (pO_en (pSumL_fw (T := T) (L := L) (k := u) h2.2) h2.2).1
          refine ⟨fun _ => ih s2 k2 (ids ++ [y1]) (xs ++ [y]) (sk T L e + 1) _ _ _ (by omega) (by omega) g1 hz2 g2 g3 S2 g4 hlen2 (by omega) hD2 ?_ ?_ hq1, fun w => absurd w (by decide)⟩
          · omega
          · omega
        · next z =>
          rw [if_neg z] at hq1
          refine ⟨fun w => absurd rfl w, fun _ => hq1 s2 sh.length _ g1 (Nat.le_refl _) (den_sum hj (Nat.le_refl _) hh g3 hz2 g2 hlen2 (by omega) (fun j hj => (g4 j hj).1) hD2 (fun F => congrFun hx2 F))⟩
  unfold pSum at hq hc hn
  have h0 : (fun y a1 => pSumL T L L y a1) = (fun (y : Ev) a1 => pSumL T L L (fun F => ([] : List Ev).foldl (fun v e => v + e F) 0 + y F) a1) := by
    funext y a1
    rw [show (fun F => ([] : List Ev).foldl (fun v e => v + e F) 0 + y F) = y by funext F; exact Int32.zero_add _]
  rw [h0] at hq hc hn
  refine ⟨_, lp L s4 64 [] [] a b (c - 2) (n - 4) (by omega) ha e4 z0 zL (Or.inl rfl) (fun _ => False) (fun j z => z.elim) rfl (Nat.zero_le _) (fun i hi => absurd hi (by simp)) (by omega) (by show _ + 2 * 0 ≤ _; omega) hq⟩
end SV
