/-! ===== PURE: the component reads a line of the law ===== -/
section LB
variable {sh : List jH} {V : Nat → Nat → Int32} {R : Nat → Nat → Option Nat} {x a b L c n : Nat} {T : Nat → Nat} {X : String → List jH → (Nat → Nat → Int32) → (Nat → Nat → Option Nat) → Prop}
theorem s1_atom (hT : TxtC V (x + 109) T L) : ∀ (n9 d : Nat), d + n9 = 6 → CSpec x V R T L X d (pAt T L (n9 + 1)) 100 1000 0 (2 * n9 + 2) (wX1_atom x (n9 + 1)) := by
  intro n9
  induction n9 with
  | zero =>
    intro d hd
    exact s1_atomB (D := 0) (P := pAt T L 0) (REC := wX1_atom x 0) hT hd (fun a h => pAt_fw h) (fun h => absurd h (by decide))
  | succ n9 ih =>
    intro d hd
    exact s1_atomB (D := 2 * n9 + 2) (P := pAt T L (n9 + 1)) (REC := wX1_atom x (n9 + 1)) hT hd (fun a h => pAt_fw h) (fun _ => ih (d + 1) (by omega))
theorem wl_end {T : Nat → Nat} {L e : Nat} (h : sk T L e = L) : wl T L e = 0 := wl_0 (fun z => by omega)
theorem s1_lawLine {Q : Option Nat → List jH → (Nat → Nat → Int32) → (Nat → Nat → Option Nat) → Prop} (hX : jReg shX1 sh x) (hC : ConSh sh) (hT : TxtC V (x + 109) T L) (ha : a ≤ L) (hc : 200 + 800 * (en L (pLine T L a) - a) ≤ c) (hn : 2000 + 4000 * (en L (pLine T L a) - a) + 10 * twl T L (pLine T L a) ≤ n) (hq : pO (pLine T L a) (fun b => bC X sh V R (x + 109) b) (fun ln e => ∀ sh' k bg, Ext sh sh' → sh.length ≤ k → ObjS sh' k → Den sh' (fun j => sh.length ≤ j) (LineF k ln) → Q (some k) sh' (cx V (x + 109) e bg 0) R)) : wX1_lawLine x sh (cx V (x + 109) a b 0) R c n Q X := by
  have hj := reg_l1 hX
  have hL := hT.1
  have hsg := sk_ge (T := T) (L := L) (a := a)
  have hs := sk_le (T := T) ha
  have hwl := wl_le (T := T) ha
  have hwd := wd_le (T := T) hs
  have hwdg : sk T L a ≤ wd T L (sk T L a) := wd_ge
  have hwe : wl T L a = wd T L (sk T L a) - sk T L a := rfl
  -- behind the first word and the number
  have m44 : ∀ (k m p : Nat) (s : List jH) (bg c n : Nat), k < 3 → Ext sh s → p ≤ L → 150 + 800 * (en L (pIf T L k m p) - p) ≤ c → 1600 + 4000 * (en L (pIf T L k m p) - p) + 10 * twl T L (pIf T L k m p) ≤ n → pO (pIf T L k m p) (fun b => bC X sh V R (x + 109) b) (fun ln e => ∀ sh' k bg, Ext sh sh' → sh.length ≤ k → ObjS sh' k → Den sh' (fun j => sh.length ≤ j) (LineF k ln) → Q (some k) sh' (cx V (x + 109) e bg 0) R) → wX1_lawLine_44 x Q X s (cx V (x + 109) p bg 0) R c n (some (59 + k)) (nI m) := by
    intro k m p s bg c n hk hE hp hc hn hq
    have hl := hE.len
    have hsp := sk_ge (T := T) (L := L) (a := p)
    have hspl := sk_le (T := T) hp
    have hwp := wl_le (T := T) hp
    -- the line is made
    have fin : ∀ (s6 : List jH) (e bg6 : Nat) (o : Option Nat) (cnd : Cd) (c6 n6 : Nat), Ext sh s6 → s6[s.length]? = some (jF (.inr (8, [.null, .int 0, .null]))) → (∀ sh' k9 bg, Ext sh sh' → sh.length ≤ k9 → ObjS sh' k9 → Den sh' (fun j => sh.length ≤ j) (LineF k9 (k, m, cnd)) → Q (some k9) sh' (cx V (x + 109) e bg 0) R) → ((o = none ∧ ∀ F, cnd F = true) ∨ ∃ k6, o = some k6 ∧ Den s6 (fun j => s.length + 1 ≤ j) (CondF k6 16 cnd)) → wX1_lawLine_72 x Q X s6 (cx V (x + 109) e bg6 0) R c6 n6 s.length s.length (some (59 + k)) (nI m) o := by
      intro s6 e bg6 o cnd c6 n6 e6 h6 hqq ho
      refine ⟨59 + k, rfl, ?_⟩
      refine putF h6 e6 hl (by omega) (Nat.le_of_ble_eq_true rfl) (fun s7 e7 a7 f7 l7 => ?_)
      refine putF a7 e7 hl (by omega) (Nat.le_of_ble_eq_true rfl) (fun s8 e8 a8 f8 l8 => ?_)
      refine putF a8 e8 hl (by omega) (Nat.le_of_ble_eq_true rfl) (fun s9 e9 a9 f9 l9 => ⟨s9, _, _, rfl, e9.reg hX, ?_⟩)
      refine hqq s9 s.length _ e9 hl ⟨8, _, by omega, Or.inl ⟨_, a9⟩, rfl, nw2816⟩ (den_line (ln := (k, m, cnd)) (o := o) (D := 16) (S := fun j => s.length + 1 ≤ j) hj hl hk a9 (fun j z => by omega) (by decide) (ho.imp (fun z => z) (fun ⟨k6, z1, z2⟩ => ⟨k6, z1, ?_⟩)))
      exact ((z2.keep (fun j t z ht => f7 j t (by omega) ht)).keep (fun j t z ht => f8 j t (by omega) ht)).keep (fun j t z ht => f9 j t (by omega) ht)
    unfold pIf at hq hc hn
    have ex : Ext s (s ++ [jF (.inr (8, [.null, .int 0, .null]))]) := Ext.refl.push
    have hpas : ∀ (c0 n0 : Nat) (QQ : Int32 → List jH → (Nat → Nat → Int32) → (Nat → Nat → Option Nat) → Prop), 10 ≤ c0 → 64 + 5 * wl T L p ≤ n0 → (∀ s5, Ext (s ++ [jF (.inr (8, [.null, .int 0, .null]))]) s5 → if isW (tw 13) T L p = true then QQ 1 s5 (cx V (x + 109) (afW (tw 13) T L p) (sk T L p) 0) R else QQ 0 s5 (cx V (x + 109) (sk T L p) (sk T L p) 0) R) → wX3_passes (x + 109) (s ++ [jF (.inr (8, [.null, .int 0, .null]))]) (cx V (x + 109) p bg 0) R c0 n0 26 QQ := fun c0 n0 QQ h1 h2 h3 => s3_passes (w := tw 13) (by decide) ((hE.trans ex).con hC) (fun sh' h V R => str_13 h.g) ((hE.trans ex).reg (reg3 hX)) hT hp h1 h2 h3
    have hln : (s ++ [jF (.inr (8, [.null, .int 0, .null]))]).length = s.length + 1 := by rw [List.length_append]; rfl
    by_cases z1 : isW (tw 13) T L p = true
    · rw [if_pos z1] at hq hc hn
      have hw2 : wl T L p = 2 := isW_wl z1
      have haf := afW_le (w := tw 13) (T := T) hp
      have hag : sk T L p + 2 = afW (tw 13) T L p := (if_pos z1).symm
      have hcs := s1_cond (X := X) (R := R) hT (fun a h => pAt_fw h) (s1_atom (x := x) (R := R) (X := X) hT 6 0 (by decide))
      have hcf := pSome_fw (T := T) (fun a h => pAt_fw (T := T) (L := L) (n := 7) h) haf
      obtain ⟨c1, hc1⟩ : ∃ c1, c1 = 130 + 800 * (en L (pSome (pAt T L 7) T L (afW (tw 13) T L p)) - afW (tw 13) T L p) := ⟨_, rfl⟩
      obtain ⟨n1, hn1⟩ : ∃ n1, n1 = 1400 + 4000 * (en L (pSome (pAt T L 7) T L (afW (tw 13) T L p)) - afW (tw 13) T L p) + 10 * twl T L (pSome (pAt T L 7) T L (afW (tw 13) T L p)) := ⟨_, rfl⟩
      have bud : c1 + 11 ≤ c ∧ n1 + 3 + 74 ≤ n := by
        rcases hr : pSome (pAt T L 7) T L (afW (tw 13) T L p) with bb | ⟨cc, e⟩
        · rw [hr] at hc hn hc1 hn1
          have h1 : 150 + 800 * (L - p) ≤ c := hc
          have h2 : 1600 + 4000 * (L - p) + 10 * 0 ≤ n := hn
          have h3 : c1 = 130 + 800 * (L - afW (tw 13) T L p) := hc1
          have h4 : n1 = 1400 + 4000 * (L - afW (tw 13) T L p) + 10 * 0 := hn1
          omega
        · rw [hr] at hc hn hc1 hn1 hcf
          have h0 : afW (tw 13) T L p < e ∧ e ≤ L := hcf
          have h1 : 150 + 800 * (e - p) ≤ c := hc
          have h2 : 1600 + 4000 * (e - p) + 10 * wl T L e ≤ n := hn
          have h3 : c1 = 130 + 800 * (e - afW (tw 13) T L p) := hc1
          have h4 : n1 = 1400 + 4000 * (e - afW (tw 13) T L p) + 10 * wl T L e := hn1
          omega
      refine ⟨c - 1, n - 3, by omega, by omega, nm_e (nm_e ⟨10, 74, c - 11, n - 77, by omega, by omega, hpas _ _ _ (by decide) (by omega) (fun s5 e5 => ?_)⟩)⟩
      rw [if_pos z1]
      have e05 := (hE.trans ex).trans e5
      have h5l := e5.len
      refine ⟨e05.reg hX, fun w => absurd w (by decide), fun _ => ⟨c1, n1, 0, 0, by omega, by omega, 7, by decide, hcs s5 _ _ c1 n1 _ (e05.reg hX) (e05.con hC) haf (Nat.le_of_eq hc1.symm) (Nat.le_of_eq hn1.symm) (pO_mono (pO_B hq) (fun b h => bC.ext h e05) (fun cc e h => fun s6 k6 bg6 e6 hk6 ob6 dn6 => ⟨(e05.trans e6).reg hX, ?_⟩))⟩⟩
      exact fin s6 e bg6 (some k6) cc _ _ (e05.trans e6) (e6 _ _ (e5 _ _ at_push)) h (Or.inr ⟨k6, rfl, dn6.wide (fun j z => by omega)⟩)
    · rw [if_neg z1] at hq hc hn
      have h1 : 150 + 800 * (sk T L p - p) ≤ c := hc
      have h2 : 1600 + 4000 * (sk T L p - p) + 10 * wl T L (sk T L p) ≤ n := hn
      rw [wl_sk] at h2
      refine ⟨c - 1, n - 3, by omega, by omega, nm_e (nm_e ⟨10, 64 + 5 * wl T L p, c - 11, n - 3 - (64 + 5 * wl T L p), by omega, by omega, hpas _ _ _ (by decide) (Nat.le_refl _) (fun s5 e5 => ?_)⟩)⟩
      rw [if_neg z1]
      have e05 := (hE.trans ex).trans e5
      exact ⟨e05.reg hX, fun _ => fin s5 _ _ none (fun _ => true) _ _ e05 (e5 _ _ at_push) hq (Or.inl ⟨rfl, fun _ => rfl⟩), fun w => absurd rfl w⟩
  unfold pLine at hq hc hn
  obtain ⟨cw, ncw⟩ : ∃ cw, cw = 64 + 5 * wl T L a := ⟨_, rfl⟩
  have hwrd : 100 + 5 * wl T L a ≤ n ∧ 100 ≤ c := by
    rcases hp : pKind T L a with _ | i
    · rw [hp] at hn hc
      have h1 : 2000 + 4000 * (L - a) + 10 * 0 ≤ n := hn
      omega
    · rw [hp] at hn hc
      have h3 := pKind_lt hp
      have h5 : wd T L (sk T L a) ≤ en L (if i = 2 then pIf T L i 0 (wd T L (sk T L a)) else pB (pNum 0 99 T L (wd T L (sk T L a))) (fun n a2 => pIf T L i n a2)) := by
        split
        · exact (pO_en (pIf_fw hwd) hwd).1
        · have hf := pNum_fw (lo := 0) (hi := 99) (T := T) hwd
          rcases hr : pNum 0 99 T L (wd T L (sk T L a)) with bb | ⟨m, e⟩
          · exact hwd
          · rw [hr] at hf
            have h0 : wd T L (sk T L a) < e ∧ e ≤ L := hf
            exact Nat.le_trans (Nat.le_of_lt h0.1) (pO_en (pIf_fw (T := T) (k := i) (n := m) h0.2) h0.2).1
      have h1 : 2000 + 4000 * (en L (if i = 2 then pIf T L i 0 (wd T L (sk T L a)) else pB (pNum 0 99 T L (wd T L (sk T L a))) (fun n a2 => pIf T L i n a2)) - a) + 10 * twl T L (if i = 2 then pIf T L i 0 (wd T L (sk T L a)) else pB (pNum 0 99 T L (wd T L (sk T L a))) (fun n a2 => pIf T L i n a2)) ≤ n := hn
      omega
  refine ⟨10, cw, c - 10, n - cw, by omega, by omega, s3_word (reg3 hX) hT ha (by omega) (by omega) (fun s1 k1 e1 w1 l1 => ⟨e1.reg hX, k1, rfl, 1, 3, c - 11, n - cw - 3, by omega, by omega, ?_⟩)⟩
  have hj1 : jn ≤ s1.length := by have := e1.len; omega
  refine s8_kindOf (e1.con hC) hj1 w1 (by omega) (by omega) (fun s2 e2 => ⟨s2, _, _, rfl, (e1.trans e2).reg hX, ?_⟩)
  have e12 := e1.trans e2
  rcases hp : pKind T L a with _ | i
  · rw [hp] at hq hn hc
    exact ⟨fun _ => s1_wrongT (r0 := 0) (e12.reg hX) (by omega) (by omega) (bC.ext (show bC X sh V R (x + 109) (sk T L a) from hq) e12), fun q hq => by cases hq⟩
  · rw [hp] at hq hn hc
    have h3 := (pKind_lt hp).2
    have hlt := (pKind_lt hp).1
    refine ⟨fun w => (by cases w), fun q hq9 => ?_⟩
    have hq4 : q = 59 + i := (Option.some.inj hq9).symm
    subst hq4
    refine ⟨fun w => ?_, fun w => ⟨Or.inr (Or.inr (Or.inr ⟨by omega, by omega, by decide, by decide, w⟩)), ?_⟩⟩
    · have hi2 : i = 2 := by omega
      subst hi2
      have hq1 : pO (pIf T L 2 0 (wd T L (sk T L a))) (fun b => bC X sh V R (x + 109) b) (fun ln e => ∀ sh' k bg, Ext sh sh' → sh.length ≤ k → ObjS sh' k → Den sh' (fun j => sh.length ≤ j) (LineF k ln) → Q (some k) sh' (cx V (x + 109) e bg 0) R) := hq
      have hc1 : 200 + 800 * (en L (pIf T L 2 0 (wd T L (sk T L a))) - a) ≤ c := hc
      have hn1 : 2000 + 4000 * (en L (pIf T L 2 0 (wd T L (sk T L a))) - a) + 10 * twl T L (pIf T L 2 0 (wd T L (sk T L a))) ≤ n := hn
      have hge := (pO_en (pIf_fw (T := T) (k := 2) (n := 0) hwd) hwd).1
      exact m44 2 0 _ s2 _ _ _ (by decide) e12 hwd (by omega) (by omega) hq1
    · have hi2 : ¬ i = 2 := by omega
      have hq1 : pO (pB (pNum 0 99 T L (wd T L (sk T L a))) (fun n a2 => pIf T L i n a2)) (fun b => bC X sh V R (x + 109) b) (fun ln e => ∀ sh' k bg, Ext sh sh' → sh.length ≤ k → ObjS sh' k → Den sh' (fun j => sh.length ≤ j) (LineF k ln) → Q (some k) sh' (cx V (x + 109) e bg 0) R) := by
        have h9 : pO (if i = 2 then pIf T L i 0 (wd T L (sk T L a)) else pB (pNum 0 99 T L (wd T L (sk T L a))) (fun n a2 => pIf T L i n a2)) (fun b => bC X sh V R (x + 109) b) (fun ln e => ∀ sh' k bg, Ext sh sh' → sh.length ≤ k → ObjS sh' k → Den sh' (fun j => sh.length ≤ j) (LineF k ln) → Q (some k) sh' (cx V (x + 109) e bg 0) R) := hq
        rw [if_neg hi2] at h9
        exact h9
      have hcn : 200 + 800 * (en L (pB (pNum 0 99 T L (wd T L (sk T L a))) (fun n a2 => pIf T L i n a2)) - a) ≤ c ∧ 2000 + 4000 * (en L (pB (pNum 0 99 T L (wd T L (sk T L a))) (fun n a2 => pIf T L i n a2)) - a) + 10 * twl T L (pB (pNum 0 99 T L (wd T L (sk T L a))) (fun n a2 => pIf T L i n a2)) ≤ n := by
        have h8 : 200 + 800 * (en L (if i = 2 then pIf T L i 0 (wd T L (sk T L a)) else pB (pNum 0 99 T L (wd T L (sk T L a))) (fun n a2 => pIf T L i n a2)) - a) ≤ c := hc
        have h9 : 2000 + 4000 * (en L (if i = 2 then pIf T L i 0 (wd T L (sk T L a)) else pB (pNum 0 99 T L (wd T L (sk T L a))) (fun n a2 => pIf T L i n a2)) - a) + 10 * twl T L (if i = 2 then pIf T L i 0 (wd T L (sk T L a)) else pB (pNum 0 99 T L (wd T L (sk T L a))) (fun n a2 => pIf T L i n a2)) ≤ n := hn
        rw [if_neg hi2] at h8 h9
        exact ⟨h8, h9⟩
      clear hq hc hn
      refine ⟨1, 6, c - 12, n - cw - 9, by omega, by omega, s3_number (e12.reg (reg3 hX)) hT hwd (by decide) (by decide) ?_⟩
      have hf := pNum_fw (lo := 0) (hi := 99) (T := T) hwd
      rcases hr : pNum 0 99 T L (wd T L (sk T L a)) with bb | ⟨m, e⟩
      · rw [hr] at hq1
        exact bC.ext (show bC X sh V R (x + 109) bb from hq1) e12
      · rw [hr] at hq1 hf hcn
        have he : wd T L (sk T L a) < e ∧ e ≤ L := hf
        have hc1 : 200 + 800 * (en L (pIf T L i m e) - a) ≤ c := hcn.1
        have hn1 : 2000 + 4000 * (en L (pIf T L i m e) - a) + 10 * twl T L (pIf T L i m e) ≤ n := hcn.2
        have hge := (pO_en (pIf_fw (T := T) (k := i) (n := m) he.2) he.2).1
        exact ⟨e12.reg hX, m44 i m e s2 _ _ _ h3 e12 he.2 (by omega) (by omega) hq1⟩
end LB
