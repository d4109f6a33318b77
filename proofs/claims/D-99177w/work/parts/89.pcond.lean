/-! ===== PURE: conditions of the component: rows of them ===== -/
def CondF (k dep : Nat) (c : Cd) (g : List jC) : Prop := (∃ C, jRcv g k C ∧ Cond.castable C "VisitingHours$Cond" ∈ jnw) ∧ ∀ s F, SceneAt g s F → ∀ f, dep ≤ f → ∀ Q : Int32 → Prop, Q (b2i (c F = true)) → wHolds g f k s Q
theorem CondF.more {k d1 d2 : Nat} {c : Cd} {g : List jC} (h : CondF k d1 c g) (hd : d1 ≤ d2) : CondF k d2 c g := ⟨h.1, fun s F hF f hf Q hQ => h.2 s F hF f (Nat.le_trans hd hf) Q hQ⟩
def bop (al v c : Bool) : Bool := if al = true then v && c else v || c
theorem bop_base {al c : Bool} : bop al al c = c := by cases al <;> cases c <;> rfl
theorem bop_stop {al c : Bool} : bop al (!al) c = !al := by cases al <;> cases c <;> rfl
theorem fold_stop {al : Bool} {F : Nat → Int32} : ∀ (cs : List Cd), cs.foldl (fun v c => bop al v (c F)) (!al) = !al := by
  intro cs
  induction cs with
  | nil => rfl
  | cons c cs ih => show cs.foldl _ (bop al (!al) (c F)) = !al; rw [bop_stop]; exact ih
def twl (T : Nat → Nat) (L : Nat) {α : Type} (r : Pz α) : Nat := match r with
  | .inl _ => 0
  | .inr z => wl T L z.2
section CO
variable {sh s s1 : List jH} {V : Nat → Nat → Int32} {R : Nat → Nat → Option Nat} {x a b d L c n h k y q0 D : Nat} {T : Nat → Nat} {ids : List Nat} {S : Nat → Prop} {X : String → List jH → (Nat → Nat → Int32) → (Nat → Nat → Option Nat) → Prop} {P : Nat → Pz Cd}
/-- a row means what its conditions mean together -/
theorem den_row {al : Bool} {cs : List Cd} {c0 : Cd} (hj : jn ≤ sh.length) (hq0 : sh.length ≤ q0) (hb : sh.length ≤ h) (hk : k = 64 ∨ sh.length ≤ k) (h0 : s[q0]? = some (jF (.inr (9, [.int (b2i (al = true)), .ref h])))) (hL : ListS s h k ids) (hlen : ids.length = cs.length) (hl4 : ids.length ≤ 401) (hS : ∀ j, S j → sh.length ≤ j) (hD : ∀ i, i < ids.length → Den s S (CondF (ids.getD i 0) D (cs.getD i (fun _ => false)))) (hx : ∀ F, c0 F = cs.foldl (fun v e => bop al v (e F)) al) : Den s (fun j => sh.length ≤ j) (CondF q0 (D + 1) c0) := by
  intro sh' hkp hC V R
  have e0 := hkp _ _ hq0 h0
  obtain ⟨hhj, ⟨v, l1⟩, l2⟩ := hL
  have e1 := hkp _ _ hb l1
  have hq0j : jn ≤ q0 := by omega
  refine ⟨⟨"VisitingHours$Row", ⟨9, _, _, mk_atF e0, rfl, rfl, fun _ => rfl⟩, nw601⟩, fun s9 F hF f hf Q hQ => ?_⟩
  obtain ⟨f, rfl⟩ : ∃ f', f = f' + 1 := ⟨f - 1, by omega⟩
  refine Or.inl ⟨_, hq0j, mk_atF e0, ?_⟩
  have get : ∀ (i : Nat) (P : Option Nat → Prop), i < ids.length → P (some (ids.getD i 0)) → wJ2_get (mk sh' V R) h (nI i) P := by
    intro i P hi hP
    refine ⟨_, mk_atF e1, hhj, nI ids.length, rfl, br_f (nI_pos (by omega)) (br_t (nI_lt hi (by omega)) ⟨_, mk_atF e1, _, mk_atF e1, hhj, some k, rfl, k, rfl, ?_⟩)⟩
    rcases l2 with ⟨-, z⟩ | ⟨z1, z2, N, f, g1, g2, g3, g4, g5, g6⟩
    · rw [z] at hi; exact absurd hi (by simp)
    · refine ⟨N, f, mk_atF (hkp _ _ (hk.resolve_left (fun w => by have h70 : jn = 70 := rfl; omega)) g1), z1, vp_in_nI (by omega) (by omega), ?_⟩
      rw [nI_clamp (by omega), g5 i hi]
      exact nm_e hP
  have hQ2 : Q (b2i ((cs.drop 0).foldl (fun v e => bop al v (e F)) al = true)) := by rw [List.drop_zero, ← hx]; exact hQ
  suffices H : ∀ r i, i + r = ids.length → Q (b2i ((cs.drop i).foldl (fun v e => bop al v (e F)) al = true)) → wX11_holds_2 (mk sh' V R) (wHolds (mk sh' V R) f) q0 s9 Q (r + 1) (nI i) from ⟨_, H _ 0 (Nat.zero_add _) hQ2⟩
  intro r
  induction r with
  | zero =>
    intro i hi hq
    rw [List.drop_eq_nil_of_le (by omega)] at hq
    exact ⟨_, mk_atF e0, hq0j, some h, rfl, h, rfl, _, mk_atF e1, _, mk_atF e1, hhj, nI ids.length, rfl, br_t (by rw [show i = ids.length by omega]; exact Int32.le_refl _) ⟨_, mk_atF e0, hq0j, b2i (al = true), rfl, jz_b, hq⟩⟩
  | succ r ih =>
    intro i hi hq
    refine ⟨_, mk_atF e0, hq0j, some h, rfl, h, rfl, _, mk_atF e1, _, mk_atF e1, hhj, nI ids.length, rfl, br_f (nI_ge (by omega) (by omega)) ⟨_, mk_atF e0, hq0j, some h, rfl, h, rfl, _, mk_atF e1, get i _ (by omega) ⟨_, rfl, ?_⟩⟩⟩
    obtain ⟨⟨C, d0, d1⟩, d2⟩ := hD i (by omega) sh' (fun j t hj ht => hkp j t (hS j hj) ht) hC V R
    refine ⟨C, d0, d1, d2 s9 F hF f (by omega) _ ⟨_, mk_atF e0, hq0j, b2i (al = true), rfl, ?_⟩⟩
    have hdr : cs.drop i = cs.getD i (fun _ => false) :: cs.drop (i + 1) := by
      rw [List.drop_eq_getElem_cons (by omega : i < cs.length), List.getD_eq_getElem?_getD, List.getElem?_eq_getElem (by omega : i < cs.length)]
      rfl
    rw [hdr, show (cs.getD i (fun _ => false) :: cs.drop (i + 1)).foldl (fun v e => bop al v (e F)) al = (cs.drop (i + 1)).foldl (fun v e => bop al v (e F)) (bop al al (cs.getD i (fun _ => false) F)) from rfl, bop_base] at hq
    refine ⟨fun z => nm_r (nI_1 i) (ih (i + 1) (by omega) ?_), fun z => ⟨_, mk_atF e0, hq0j, b2i (al = true), rfl, ?_⟩⟩
    · have : cs.getD i (fun _ => false) F = al := by
        revert z
        cases cs.getD i (fun _ => false) F <;> cases al <;> decide
      rw [this] at hq
      exact hq
    · have : cs.getD i (fun _ => false) F = !al := by
        revert z
        cases cs.getD i (fun _ => false) F <;> cases al <;> decide
      rw [this, fold_stop] at hq
      revert hq
      cases al
      · exact fun hq => ⟨fun w => absurd rfl w, fun _ => hq⟩
      · exact fun hq => ⟨fun _ => hq, fun w => absurd w (by decide)⟩
theorem s8_rowInit {Q : List jC → Prop} {al : Bool} (hE : Ext sh s) (hj : jn ≤ sh.length) (hq0 : sh.length ≤ q0) (h0 : s[q0]? = some (jF (.inr (9, [.int 0, .null])))) (hc : 1 ≤ c) (hn : 3 ≤ n) (hq : ∀ s' h, Ext sh s' → s'[q0]? = some (jF (.inr (9, [.int (b2i (al = true)), .ref h]))) → ListS s' h 64 [] → sh.length ≤ h → s.length ≤ h → (∀ j t, j ≠ q0 → s[j]? = some t → s'[j]? = some t) → s'.length = s.length + 1 → Q (mk s' V R)) : wX11_init (mk s V R) c n q0 (b2i (al = true)) Q := by
  have hq0l := (List.getElem?_eq_some_iff.mp h0).1
  have hle := hE.len
  refine ⟨c - 1, n - 3, by omega, by omega, ?_⟩
  rw [mk_len]
  refine nm_e ?_
  rw [mk_pushF]
  refine nm_e ?_
  have ex : Ext s (s ++ [jF (.inr (15, [.int 0, .null, .int 0]))]) := Ext.refl.push
  refine putF at_push (hE.trans ex) hle (by omega) (Nat.le_of_ble_eq_true rfl) (fun s1 e1 a1 f1 l1 => ?_)
  refine putF a1 e1 hle (by omega) (Nat.le_of_ble_eq_true rfl) (fun s2 e2 a2 f2 l2 => ?_)
  have b2 := f2 _ _ (by omega) (f1 _ _ (by omega) (ex _ _ h0))
  refine putF b2 e2 hq0 (by omega) (Nat.le_of_ble_eq_true rfl) (fun s3 e3 a3 f3 l3 => ⟨jz_b, ?_⟩)
  have b3 := f3 _ _ (by omega) a2
  refine putF a3 e3 hq0 (by omega) (Nat.le_of_ble_eq_true rfl) (fun s4 e4 a4 f4 l4 => ?_)
  have b4 := f4 _ _ (by omega) b3
  refine hq s4 s.length e4 a4 ⟨by omega, ⟨0, b4⟩, Or.inl ⟨rfl, rfl⟩⟩ hle (Nat.le_refl _) (fun j t z ht => ?_) (by rw [l4, l3, l2, l1, List.length_append]; rfl)
  have hjl := (List.getElem?_eq_some_iff.mp ht).1
  exact f4 j t z (f3 j t z (f2 j t (by omega) (f1 j t (by omega) (ex _ _ ht))))
/-- a reader of conditions does as P tells -/
def CSpec (x : Nat) (V : Nat → Nat → Int32) (R : Nat → Nat → Option Nat) (T : Nat → Nat) (L : Nat) (X : String → List jH → (Nat → Nat → Int32) → (Nat → Nat → Option Nat) → Prop) (d : Nat) (P : Nat → Pz Cd) (KC KN J D : Nat) (REC : List jH → (Nat → Nat → Int32) → (Nat → Nat → Option Nat) → Nat → Nat → (Option Nat → List jH → (Nat → Nat → Int32) → (Nat → Nat → Option Nat) → Prop) → (String → List jH → (Nat → Nat → Int32) → (Nat → Nat → Option Nat) → Prop) → Prop) : Prop :=
  ∀ (sh : List jH) (p b c n : Nat) (Q : Option Nat → List jH → (Nat → Nat → Int32) → (Nat → Nat → Option Nat) → Prop), jReg shX1 sh x → ConSh sh → p ≤ L → KC + 800 * (en L (P p) - p) ≤ c → KN + 4000 * (en L (P p) - p) + J * twl T L (P p) ≤ n →
    pO (P p) (fun b => bC X sh V R (x + 109) b) (fun y e => ∀ sh' k bg, Ext sh sh' → sh.length ≤ k → ObjS sh' k → Den sh' (fun j => sh.length ≤ j) (CondF k D y) → Q (some k) sh' (cx V (x + 109) e bg d) R) → REC sh (cx V (x + 109) p b d) R c n Q X
theorem enl_B {P : Nat → Pz Cd} {k : Cd → Nat → Pz Cd} {p : Nat} (h1 : fw L p (P p)) (h2 : ∀ c e, e ≤ L → fw0 L e (k c e)) : en L (P p) ≤ en L (pB (P p) k) ∧ en L (pB (P p) k) ≤ L := by
  rcases hr : P p with b | ⟨c, e⟩
  · exact ⟨Nat.le_refl _, Nat.le_refl _⟩
  · rw [hr] at h1
    have he : p < e ∧ e ≤ L := h1
    exact pO_en (h2 c e he.2) he.2
theorem s1_allOf {REC : List jH → (Nat → Nat → Int32) → (Nat → Nat → Option Nat) → Nat → Nat → (Option Nat → List jH → (Nat → Nat → Int32) → (Nat → Nat → Option Nat) → Prop) → (String → List jH → (Nat → Nat → Int32) → (Nat → Nat → Option Nat) → Prop) → Prop} (hT : TxtC V (x + 109) T L) (hfw : ∀ a, a ≤ L → fw L a (P a)) (hREC : CSpec x V R T L X d P 100 1000 0 D REC) : CSpec x V R T L X d (pEvery P T L) 115 1200 5 (D + 1) (wX1_allOf x REC) := by
  intro sh a b c n Q hX hC ha hc hn hq
  have hj := reg_l1 hX
  have hL := hT.1
  
  have hPfw : ∀ a, a ≤ L → fw L a (P a) := hfw
  refine ⟨c - 1, n - 2, by omega, by omega, nm_e (nm_e ⟨1, 3, c - 2, n - 5, by omega, by omega, ?_⟩)⟩
  refine s8_rowInit (al := true) (q0 := sh.length) Ext.refl.push hj (Nat.le_refl _) at_push (by omega) (by omega) (fun s4 h e4 z0 zL hh hh2 _ _ => ⟨s4, _, _, rfl, e4.reg hX, ?_⟩)
  have hne : sh.length < h := by rw [List.length_append] at hh2; exact hh2
  have lp : ∀ (u : Nat) (s : List jH) (k : Nat) (ids : List Nat) (cs : List Cd) (p bg c n : Nat), L ≤ p + u → p ≤ L → Ext sh s → s[sh.length]? = some (jF (.inr (9, [.int (b2i (true = true)), .ref h]))) → ListS s h k ids → (k = 64 ∨ sh.length ≤ k) → ∀ S : Nat → Prop, (∀ j, S j → sh.length ≤ j ∧ j < s.length ∧ j ≠ h ∧ j ≠ k) → ids.length = cs.length → ids.length ≤ p → (∀ i, i < ids.length → Den s S (CondF (ids.getD i 0) (D) (cs.getD i (fun _ => false)))) → 111 + 800 * (en L (pB (P p) (fun y9 a1 => pLoop (tw 17) (P) and T L u (fun F => bop true (cs.foldl (fun v e => bop true v (e F)) true) (y9 F)) a1)) - p) ≤ c → 1080 + 4000 * (en L (pB (P p) (fun y9 a1 => pLoop (tw 17) (P) and T L u (fun F => bop true (cs.foldl (fun v e => bop true v (e F)) true) (y9 F)) a1)) - p) + 2 * ids.length + 5 * twl T L (pB (P p) (fun y9 a1 => pLoop (tw 17) (P) and T L u (fun F => bop true (cs.foldl (fun v e => bop true v (e F)) true) (y9 F)) a1)) ≤ n →
      pO (pB (P p) (fun y9 a1 => pLoop (tw 17) (P) and T L u (fun F => bop true (cs.foldl (fun v e => bop true v (e F)) true) (y9 F)) a1)) (fun b => bC X sh V R (x + 109) b) (fun y e => ∀ sh' k bg, Ext sh sh' → sh.length ≤ k → ObjS sh' k → Den sh' (fun j => sh.length ≤ j) (CondF k (D + 1) y) → Q (some k) sh' (cx V (x + 109) e bg d) R) → wX1_allOf_9 x REC Q X (u + 1) s (cx V (x + 109) p bg d) R c n sh.length := by
    intro u
    induction u with
    | zero =>
      intro s k ids cs p bg c n hu hp hE hz hLi hk S hS hlen hidp hD hc hn hq
      have hf1 := hPfw p hp
      have hpl : p = L := by omega
      obtain ⟨m1, hm1⟩ : ∃ m1, m1 = 1000 + 4000 * (en L (P p) - p) := ⟨_, rfl⟩
      obtain ⟨c1, hc1⟩ : ∃ c1, c1 = 100 + 800 * (en L (P p) - p) := ⟨_, rfl⟩
      rcases hr : P p with b1 | ⟨y, e⟩
      · rw [hr] at hq hc1 hm1
        have hm2 : m1 = 1000 + 4000 * (L - p) := hm1
        have hc2 : c1 = 100 + 800 * (L - p) := hc1
        refine ⟨_, mk_atF hz, by omega, some h, rfl, c1, m1, c - c1, n - m1, by omega, by omega, hREC s p bg c1 m1 _ (hE.reg hX) (hE.con hC) hp (by rw [hr]; show 100 + 800 * (L - p) ≤ c1; omega) (by rw [hr]; show 1000 + 4000 * (L - p) + 0 * 0 ≤ m1; omega) ?_⟩
        rw [hr]
        exact bC.ext (show bC X sh V R (x + 109) b1 from hq) hE
      · rw [hr] at hf1
        have : p < e ∧ e ≤ L := hf1
        omega
    | succ u ih =>
      intro s k ids cs p bg c n hu hp hE hz hLi hk S hS hlen hidp hD hc hn hq
      have hf1 := hPfw p hp
      have henB := enl_B (P := P) (L := L) hf1 (k := fun y9 a1 => pLoop (tw 17) (P) and T L (u + 1) (fun F => bop true (cs.foldl (fun v e => bop true v (e F)) true) (y9 F)) a1) (fun c e he => pLoop_fw hPfw he)
      rcases hr : P p with b1 | ⟨y, e⟩
      · rw [hr] at hq hc hn
        have hc2 : 111 + 800 * (L - p) ≤ c := hc
        have hn2 : 1080 + 4000 * (L - p) + 2 * ids.length + 5 * 0 ≤ n := hn
        refine ⟨_, mk_atF hz, by omega, some h, rfl, 100 + 800 * (L - p), 1000 + 4000 * (L - p), 0, 0, by omega, by omega, hREC s p bg _ _ _ (hE.reg hX) (hE.con hC) hp (by rw [hr]; exact Nat.le_refl _) (by rw [hr]; exact Nat.le_refl _) ?_⟩
        rw [hr]
        exact bC.ext (show bC X sh V R (x + 109) b1 from hq) hE
      · rw [hr] at hq hc hn hf1 henB
        have he : p < e ∧ e ≤ L := hf1
        have hwe := wl_le (T := T) he.2
        have hse := sk_ge (T := T) (L := L) (a := e)
        have hq1 : pO (pLoop (tw 17) (P) and T L (u + 1) (fun F => bop true (cs.foldl (fun v e => bop true v (e F)) true) (y F)) e) (fun b => bC X sh V R (x + 109) b) (fun y e => ∀ sh' k bg, Ext sh sh' → sh.length ≤ k → ObjS sh' k → Den sh' (fun j => sh.length ≤ j) (CondF k (D + 1) y) → Q (some k) sh' (cx V (x + 109) e bg d) R) := hq
        have hc1 : 111 + 800 * (en L (pLoop (tw 17) (P) and T L (u + 1) (fun F => bop true (cs.foldl (fun v e => bop true v (e F)) true) (y F)) e) - p) ≤ c := hc
        have hn1 : 1080 + 4000 * (en L (pLoop (tw 17) (P) and T L (u + 1) (fun F => bop true (cs.foldl (fun v e => bop true v (e F)) true) (y F)) e) - p) + 2 * ids.length + 5 * twl T L (pLoop (tw 17) (P) and T L (u + 1) (fun F => bop true (cs.foldl (fun v e => bop true v (e F)) true) (y F)) e) ≤ n := hn
        clear hq hc hn henB
        have hx2 : (fun F => bop true (cs.foldl (fun v e => bop true v (e F)) true) (y F)) = (fun F => (cs ++ [y]).foldl (fun v e => bop true v (e F)) true) := by
          funext F
          rw [List.foldl_append]
          rfl
        unfold pLoop at hq1 hc1 hn1
        have hwB : isW (tw 17) T L e = true → wl T L e = 3 ∧ e + 3 ≤ afW (tw 17) T L e ∧ afW (tw 17) T L e ≤ L := fun z => by
          have h1 := isW_wl z
          have h2 : afW (tw 17) T L e = sk T L e + 3 := if_pos z
          refine ⟨h1, by omega, afW_le he.2⟩
        -- what is left behind the condition
        have bud : isW (tw 17) T L e = true ∧ 111 + 800 * (en L (pB (P (afW (tw 17) T L e)) (fun y9 a1 => pLoop (tw 17) (P) and T L u (fun F => bop true ((cs ++ [y]).foldl (fun v e => bop true v (e F)) true) (y9 F)) a1)) - p) ≤ c ∧ 1080 + 4000 * (en L (pB (P (afW (tw 17) T L e)) (fun y9 a1 => pLoop (tw 17) (P) and T L u (fun F => bop true ((cs ++ [y]).foldl (fun v e => bop true v (e F)) true) (y9 F)) a1)) - p) + 2 * ids.length + 5 * twl T L (pB (P (afW (tw 17) T L e)) (fun y9 a1 => pLoop (tw 17) (P) and T L u (fun F => bop true ((cs ++ [y]).foldl (fun v e => bop true v (e F)) true) (y9 F)) a1)) ≤ n ∧ afW (tw 17) T L e ≤ en L (pB (P (afW (tw 17) T L e)) (fun y9 a1 => pLoop (tw 17) (P) and T L u (fun F => bop true ((cs ++ [y]).foldl (fun v e => bop true v (e F)) true) (y9 F)) a1)) ∨ ¬ isW (tw 17) T L e = true ∧ 111 + 800 * (sk T L e - p) ≤ c ∧ 1080 + 4000 * (sk T L e - p) + 2 * ids.length + 5 * wl T L e ≤ n := by
          by_cases z : isW (tw 17) T L e = true
          · rw [if_pos z] at hc1 hn1
            rw [hx2] at hc1 hn1
            have h2 := hwB z
            have h3 := hPfw _ h2.2.2
            refine Or.inl ⟨z, hc1, hn1, ?_⟩
            have h4 := enl_B (P := P) (L := L) h3 (k := fun y9 a1 => pLoop (tw 17) (P) and T L u (fun F => bop true ((cs ++ [y]).foldl (fun v e => bop true v (e F)) true) (y9 F)) a1) (fun c e he => pLoop_fw hPfw he)
            have h5 := pO_en (pO_mono h3 (fun _ z => z) (fun _ _ z => ⟨Nat.le_of_lt z.1, z.2⟩)) h2.2.2
            exact Nat.le_trans h5.1 h4.1
          · rw [if_neg z] at hc1 hn1
            refine Or.inr ⟨z, hc1, ?_⟩
            have h9 : 1080 + 4000 * (sk T L e - p) + 2 * ids.length + 5 * wl T L (sk T L e) ≤ n := hn1
            rw [wl_sk] at h9
            exact h9
        clear hc1 hn1
        obtain ⟨m1, hm1⟩ : ∃ m1, m1 = 1000 + 4000 * (e - p) + 0 * wl T L e := ⟨_, rfl⟩
        obtain ⟨c1, hcc1⟩ : ∃ c1, c1 = 100 + 800 * (e - p) := ⟨_, rfl⟩
        have tot : c1 + 11 ≤ c ∧ m1 + (10 + 2 * ids.length) + (64 + 5 * wl T L e) ≤ n := by
          rcases bud with ⟨z, b1, b2, b3⟩ | ⟨z, b1, b2⟩
          · have := hwB z; omega
          · omega
        refine ⟨_, mk_atF hz, by omega, some h, rfl, c1, m1, c - c1, n - m1, by omega, by omega, hREC s p bg c1 m1 _ (hE.reg hX) (hE.con hC) hp (by rw [hr]; show 100 + 800 * (e - p) ≤ c1; omega) (by rw [hr]; show 1000 + 4000 * (e - p) + 0 * wl T L e ≤ m1; omega) ?_⟩
        rw [hr]
        intro s1 y1 bg1 e1 hy1 ob1 dn1
        refine ⟨(hE.trans e1).reg hX, y1, rfl, h, rfl, ?_⟩
        obtain ⟨v, lv⟩ := hLi.2.1
        refine ⟨_, mk_atF (e1 _ _ lv), 1, 10 + 2 * ids.length, c - c1 - 1, n - m1 - (10 + 2 * ids.length), by omega, by omega, ?_⟩
        refine s8_addD hC hj hE hLi hh hk hS e1 ob1 dn1 (by omega) (by omega) (by omega) (fun s2 k2 S2 g1 g2 g3 g4 g5 g6 g7 g8 g9 => ⟨s2, _, _, rfl, g1.reg hX, ?_⟩)
        have hz2 : s2[sh.length]? = some (jF (.inr (9, [.int (b2i (true = true)), .ref h]))) := g7 _ _ (by omega) (fun q => by
          rcases hLi.2.2 with ⟨z, -⟩ | ⟨-, -, N, f, z, -⟩
          · have h70 : jn = 70 := rfl
            omega
          · rw [← q, hz] at z; cases z) (e1 _ _ hz)
        have hlen2 : (ids ++ [y1]).length = (cs ++ [y]).length := by rw [List.length_append, List.length_append, hlen]; rfl
        have hl1 : (ids ++ [y1]).length = ids.length + 1 := by rw [List.length_append]; rfl
        have hD2 : ∀ i, i < (ids ++ [y1]).length → Den s2 S2 (CondF ((ids ++ [y1]).getD i 0) (D) ((cs ++ [y]).getD i (fun _ => false))) := by
          intro i hi
          rw [getD_app]
          by_cases z : i < ids.length
          · rw [if_pos z, List.getD_eq_getElem?_getD (l := cs ++ [y]), List.getElem?_append_left (by omega), ← List.getD_eq_getElem?_getD]
            exact g5 _ (hD i z)
          · have zi : i = ids.length := by omega
            rw [if_neg z, if_pos zi, List.getD_eq_getElem?_getD (l := cs ++ [y]), List.getElem?_append_right (by omega), show i - cs.length = 0 by omega]
            exact g6
        show ∃ c128 n128 c228 n228 : Nat, c128 + c228 ≤ c - c1 - 1 ∧ n128 + n228 ≤ n - m1 - (10 + 2 * ids.length) ∧ wX3_passes (x + 109) s2 (cx V (x + 109) e bg1 d) R c128 n128 34 _
        refine ⟨10, 64 + 5 * wl T L e, c - c1 - 11, n - m1 - (10 + 2 * ids.length) - (64 + 5 * wl T L e), by omega, by omega, s3_passes (w := tw 17) (by decide) (g1.con hC) (fun sh' h V R => str_17 h.g) (g1.reg (reg3 hX)) hT he.2 (by omega) (by exact Nat.le_refl _) (fun s3 e3 => ?_)⟩
        have hz3 := e3 _ _ hz2
        have g13 := g1.trans e3
        have hL3 : ListS s3 h k2 (ids ++ [y1]) := by
          obtain ⟨l1, ⟨v, l2⟩, l3⟩ := g2
          refine ⟨l1, ⟨v, e3 _ _ l2⟩, l3.imp (fun z => z) (fun z => ?_)⟩
          obtain ⟨z1, z2, N, f, q1, q2, q3, q4, q5, q6⟩ := z
          exact ⟨z1, z2, N, f, e3 _ _ q1, q2, q3, q4, q5, fun i y hy => (q6 i y hy).ext e3⟩
        have hl3 := e3.len
        have hS3 : ∀ j, S2 j → sh.length ≤ j ∧ j < s3.length ∧ j ≠ h ∧ j ≠ k2 := fun j hj => ⟨(g4 j hj).1, by have := (g4 j hj).2.1; omega, (g4 j hj).2.2⟩
        have hD3 : ∀ i, i < (ids ++ [y1]).length → Den s3 S2 (CondF ((ids ++ [y1]).getD i 0) (D) ((cs ++ [y]).getD i (fun _ => false))) := fun i hi => (hD2 i hi).ext e3
        split
        · next z =>
          rw [if_pos z] at hq1
          rw [hx2] at hq1
          have h2 := hwB z
          rcases bud with ⟨-, b1, b2, b3⟩ | ⟨z9, -⟩
          · exact ⟨g13.reg hX, fun _ => ih s3 k2 (ids ++ [y1]) (cs ++ [y]) (afW (tw 17) T L e) _ _ _ (by omega) h2.2.2 g13 hz3 hL3 g3 S2 hS3 hlen2 (by omega) hD3 (by omega) (by omega) hq1, fun w => absurd w (by decide)⟩
          · exact absurd z z9
        · next z =>
          rw [if_neg z] at hq1
          exact ⟨g13.reg hX, fun w => absurd rfl w, fun _ => hq1 s3 sh.length _ g13 (Nat.le_refl _) ⟨9, _, hj, Or.inl ⟨_, hz3⟩, rfl, nw2817⟩ (den_row (al := true) hj (Nat.le_refl _) hh g3 hz3 hL3 hlen2 (by omega) (fun j hj => (g4 j hj).1) hD3 (fun F => congrFun hx2 F))⟩
  have h0 : pEvery P T L a = pB (P a) (fun y9 a1 => pLoop (tw 17) (P) and T L L (fun F => bop true (([] : List Cd).foldl (fun v e => bop true v (e F)) true) (y9 F)) a1) := by
    unfold pEvery
    congr 1
    try (funext y9 a1; rw [show (fun F => bop true (([] : List Cd).foldl (fun v e => bop true v (e F)) true) (y9 F)) = y9 by funext F; exact bop_base])
  rw [h0] at hq hc hn
  refine ⟨_, lp L s4 64 [] [] a b (c - 2) (n - 5) (by omega) ha e4 z0 zL (Or.inl rfl) (fun _ => False) (fun j z => z.elim) rfl (Nat.zero_le _) (fun i hi => absurd hi (by simp)) (by omega) (by show _ + 2 * 0 + _ ≤ _; omega) hq⟩
theorem s1_cond {REC : List jH → (Nat → Nat → Int32) → (Nat → Nat → Option Nat) → Nat → Nat → (Option Nat → List jH → (Nat → Nat → Int32) → (Nat → Nat → Option Nat) → Prop) → (String → List jH → (Nat → Nat → Int32) → (Nat → Nat → Option Nat) → Prop) → Prop} (hT : TxtC V (x + 109) T L) (hfw : ∀ a, a ≤ L → fw L a (P a)) (hREC : CSpec x V R T L X d P 100 1000 0 D REC) : CSpec x V R T L X d (pSome P T L) 130 1400 10 ((D + 1) + 1) (wX1_cond x REC) := by
  intro sh a b c n Q hX hC ha hc hn hq
  have hj := reg_l1 hX
  have hL := hT.1
  
  have hPfw : ∀ a, a ≤ L → fw L a ((pEvery P T L) a) := fun a h => pEvery_fw hfw h
  refine ⟨c - 1, n - 2, by omega, by omega, nm_e (nm_e ⟨1, 3, c - 2, n - 5, by omega, by omega, ?_⟩)⟩
  refine s8_rowInit (al := false) (q0 := sh.length) Ext.refl.push hj (Nat.le_refl _) at_push (by omega) (by omega) (fun s4 h e4 z0 zL hh hh2 _ _ => ⟨s4, _, _, rfl, e4.reg hX, ?_⟩)
  have hne : sh.length < h := by rw [List.length_append] at hh2; exact hh2
  have lp : ∀ (u : Nat) (s : List jH) (k : Nat) (ids : List Nat) (cs : List Cd) (p bg c n : Nat), L ≤ p + u → p ≤ L → Ext sh s → s[sh.length]? = some (jF (.inr (9, [.int (b2i (false = true)), .ref h]))) → ListS s h k ids → (k = 64 ∨ sh.length ≤ k) → ∀ S : Nat → Prop, (∀ j, S j → sh.length ≤ j ∧ j < s.length ∧ j ≠ h ∧ j ≠ k) → ids.length = cs.length → ids.length ≤ p → (∀ i, i < ids.length → Den s S (CondF (ids.getD i 0) ((D + 1)) (cs.getD i (fun _ => false)))) → 126 + 800 * (en L (pB ((pEvery P T L) p) (fun y9 a1 => pLoop (tw 18) ((pEvery P T L)) or T L u (fun F => bop false (cs.foldl (fun v e => bop false v (e F)) false) (y9 F)) a1)) - p) ≤ c → 1280 + 4000 * (en L (pB ((pEvery P T L) p) (fun y9 a1 => pLoop (tw 18) ((pEvery P T L)) or T L u (fun F => bop false (cs.foldl (fun v e => bop false v (e F)) false) (y9 F)) a1)) - p) + 2 * ids.length + 10 * twl T L (pB ((pEvery P T L) p) (fun y9 a1 => pLoop (tw 18) ((pEvery P T L)) or T L u (fun F => bop false (cs.foldl (fun v e => bop false v (e F)) false) (y9 F)) a1)) ≤ n →
      pO (pB ((pEvery P T L) p) (fun y9 a1 => pLoop (tw 18) ((pEvery P T L)) or T L u (fun F => bop false (cs.foldl (fun v e => bop false v (e F)) false) (y9 F)) a1)) (fun b => bC X sh V R (x + 109) b) (fun y e => ∀ sh' k bg, Ext sh sh' → sh.length ≤ k → ObjS sh' k → Den sh' (fun j => sh.length ≤ j) (CondF k ((D + 1) + 1) y) → Q (some k) sh' (cx V (x + 109) e bg d) R) → wX1_cond_9 x REC Q X (u + 1) s (cx V (x + 109) p bg d) R c n sh.length := by
    intro u
    induction u with
    | zero =>
      intro s k ids cs p bg c n hu hp hE hz hLi hk S hS hlen hidp hD hc hn hq
      have hf1 := hPfw p hp
      have hpl : p = L := by omega
      obtain ⟨m1, hm1⟩ : ∃ m1, m1 = 1200 + 4000 * (en L ((pEvery P T L) p) - p) := ⟨_, rfl⟩
      obtain ⟨c1, hc1⟩ : ∃ c1, c1 = 115 + 800 * (en L ((pEvery P T L) p) - p) := ⟨_, rfl⟩
      rcases hr : (pEvery P T L) p with b1 | ⟨y, e⟩
      · rw [hr] at hq hc1 hm1
        have hm2 : m1 = 1200 + 4000 * (L - p) := hm1
        have hc2 : c1 = 115 + 800 * (L - p) := hc1
        refine ⟨_, mk_atF hz, by omega, some h, rfl, c1, m1, c - c1, n - m1, by omega, by omega, (s1_allOf hT hfw hREC) s p bg c1 m1 _ (hE.reg hX) (hE.con hC) hp (by rw [hr]; show 115 + 800 * (L - p) ≤ c1; omega) (by rw [hr]; show 1200 + 4000 * (L - p) + 5 * 0 ≤ m1; omega) ?_⟩
        rw [hr]
        exact bC.ext (show bC X sh V R (x + 109) b1 from hq) hE
      · rw [hr] at hf1
        have : p < e ∧ e ≤ L := hf1
        omega
    | succ u ih =>
      intro s k ids cs p bg c n hu hp hE hz hLi hk S hS hlen hidp hD hc hn hq
      have hf1 := hPfw p hp
      have henB := enl_B (P := (pEvery P T L)) (L := L) hf1 (k := fun y9 a1 => pLoop (tw 18) ((pEvery P T L)) or T L (u + 1) (fun F => bop false (cs.foldl (fun v e => bop false v (e F)) false) (y9 F)) a1) (fun c e he => pLoop_fw hPfw he)
      rcases hr : (pEvery P T L) p with b1 | ⟨y, e⟩
      · rw [hr] at hq hc hn
        have hc2 : 126 + 800 * (L - p) ≤ c := hc
        have hn2 : 1280 + 4000 * (L - p) + 2 * ids.length + 10 * 0 ≤ n := hn
        refine ⟨_, mk_atF hz, by omega, some h, rfl, 115 + 800 * (L - p), 1200 + 4000 * (L - p), 0, 0, by omega, by omega, (s1_allOf hT hfw hREC) s p bg _ _ _ (hE.reg hX) (hE.con hC) hp (by rw [hr]; exact Nat.le_refl _) (by rw [hr]; exact Nat.le_refl _) ?_⟩
        rw [hr]
        exact bC.ext (show bC X sh V R (x + 109) b1 from hq) hE
      · rw [hr] at hq hc hn hf1 henB
        have he : p < e ∧ e ≤ L := hf1
        have hwe := wl_le (T := T) he.2
        have hse := sk_ge (T := T) (L := L) (a := e)
        have hq1 : pO (pLoop (tw 18) ((pEvery P T L)) or T L (u + 1) (fun F => bop false (cs.foldl (fun v e => bop false v (e F)) false) (y F)) e) (fun b => bC X sh V R (x + 109) b) (fun y e => ∀ sh' k bg, Ext sh sh' → sh.length ≤ k → ObjS sh' k → Den sh' (fun j => sh.length ≤ j) (CondF k ((D + 1) + 1) y) → Q (some k) sh' (cx V (x + 109) e bg d) R) := hq
        have hc1 : 126 + 800 * (en L (pLoop (tw 18) ((pEvery P T L)) or T L (u + 1) (fun F => bop false (cs.foldl (fun v e => bop false v (e F)) false) (y F)) e) - p) ≤ c := hc
        have hn1 : 1280 + 4000 * (en L (pLoop (tw 18) ((pEvery P T L)) or T L (u + 1) (fun F => bop false (cs.foldl (fun v e => bop false v (e F)) false) (y F)) e) - p) + 2 * ids.length + 10 * twl T L (pLoop (tw 18) ((pEvery P T L)) or T L (u + 1) (fun F => bop false (cs.foldl (fun v e => bop false v (e F)) false) (y F)) e) ≤ n := hn
        clear hq hc hn henB
        have hx2 : (fun F => bop false (cs.foldl (fun v e => bop false v (e F)) false) (y F)) = (fun F => (cs ++ [y]).foldl (fun v e => bop false v (e F)) false) := by
          funext F
          rw [List.foldl_append]
          rfl
        unfold pLoop at hq1 hc1 hn1
        have hwB : isW (tw 18) T L e = true → wl T L e = 2 ∧ e + 2 ≤ afW (tw 18) T L e ∧ afW (tw 18) T L e ≤ L := fun z => by
          have h1 := isW_wl z
          have h2 : afW (tw 18) T L e = sk T L e + 2 := if_pos z
          refine ⟨h1, by omega, afW_le he.2⟩
        -- what is left behind the condition
        have bud : isW (tw 18) T L e = true ∧ 126 + 800 * (en L (pB ((pEvery P T L) (afW (tw 18) T L e)) (fun y9 a1 => pLoop (tw 18) ((pEvery P T L)) or T L u (fun F => bop false ((cs ++ [y]).foldl (fun v e => bop false v (e F)) false) (y9 F)) a1)) - p) ≤ c ∧ 1280 + 4000 * (en L (pB ((pEvery P T L) (afW (tw 18) T L e)) (fun y9 a1 => pLoop (tw 18) ((pEvery P T L)) or T L u (fun F => bop false ((cs ++ [y]).foldl (fun v e => bop false v (e F)) false) (y9 F)) a1)) - p) + 2 * ids.length + 10 * twl T L (pB ((pEvery P T L) (afW (tw 18) T L e)) (fun y9 a1 => pLoop (tw 18) ((pEvery P T L)) or T L u (fun F => bop false ((cs ++ [y]).foldl (fun v e => bop false v (e F)) false) (y9 F)) a1)) ≤ n ∧ afW (tw 18) T L e ≤ en L (pB ((pEvery P T L) (afW (tw 18) T L e)) (fun y9 a1 => pLoop (tw 18) ((pEvery P T L)) or T L u (fun F => bop false ((cs ++ [y]).foldl (fun v e => bop false v (e F)) false) (y9 F)) a1)) ∨ ¬ isW (tw 18) T L e = true ∧ 126 + 800 * (sk T L e - p) ≤ c ∧ 1280 + 4000 * (sk T L e - p) + 2 * ids.length + 10 * wl T L e ≤ n := by
          by_cases z : isW (tw 18) T L e = true
          · rw [if_pos z] at hc1 hn1
            rw [hx2] at hc1 hn1
            have h2 := hwB z
            have h3 := hPfw _ h2.2.2
            refine Or.inl ⟨z, hc1, hn1, ?_⟩
            have h4 := enl_B (P := (pEvery P T L)) (L := L) h3 (k := fun y9 a1 => pLoop (tw 18) ((pEvery P T L)) or T L u (fun F => bop false ((cs ++ [y]).foldl (fun v e => bop false v (e F)) false) (y9 F)) a1) (fun c e he => pLoop_fw hPfw he)
            have h5 := pO_en (pO_mono h3 (fun _ z => z) (fun _ _ z => ⟨Nat.le_of_lt z.1, z.2⟩)) h2.2.2
            exact Nat.le_trans h5.1 h4.1
          · rw [if_neg z] at hc1 hn1
            refine Or.inr ⟨z, hc1, ?_⟩
            have h9 : 1280 + 4000 * (sk T L e - p) + 2 * ids.length + 10 * wl T L (sk T L e) ≤ n := hn1
            rw [wl_sk] at h9
            exact h9
        clear hc1 hn1
        obtain ⟨m1, hm1⟩ : ∃ m1, m1 = 1200 + 4000 * (e - p) + 5 * wl T L e := ⟨_, rfl⟩
        obtain ⟨c1, hcc1⟩ : ∃ c1, c1 = 115 + 800 * (e - p) := ⟨_, rfl⟩
        have tot : c1 + 11 ≤ c ∧ m1 + (10 + 2 * ids.length) + (64 + 5 * wl T L e) ≤ n := by
          rcases bud with ⟨z, b1, b2, b3⟩ | ⟨z, b1, b2⟩
          · have := hwB z; omega
          · omega
        refine ⟨_, mk_atF hz, by omega, some h, rfl, c1, m1, c - c1, n - m1, by omega, by omega, (s1_allOf hT hfw hREC) s p bg c1 m1 _ (hE.reg hX) (hE.con hC) hp (by rw [hr]; show 115 + 800 * (e - p) ≤ c1; omega) (by rw [hr]; show 1200 + 4000 * (e - p) + 5 * wl T L e ≤ m1; omega) ?_⟩
        rw [hr]
        intro s1 y1 bg1 e1 hy1 ob1 dn1
        refine ⟨(hE.trans e1).reg hX, y1, rfl, h, rfl, ?_⟩
        obtain ⟨v, lv⟩ := hLi.2.1
        refine ⟨_, mk_atF (e1 _ _ lv), 1, 10 + 2 * ids.length, c - c1 - 1, n - m1 - (10 + 2 * ids.length), by omega, by omega, ?_⟩
        refine s8_addD hC hj hE hLi hh hk hS e1 ob1 dn1 (by omega) (by omega) (by omega) (fun s2 k2 S2 g1 g2 g3 g4 g5 g6 g7 g8 g9 => ⟨s2, _, _, rfl, g1.reg hX, ?_⟩)
        have hz2 : s2[sh.length]? = some (jF (.inr (9, [.int (b2i (false = true)), .ref h]))) := g7 _ _ (by omega) (fun q => by
          rcases hLi.2.2 with ⟨z, -⟩ | ⟨-, -, N, f, z, -⟩
          · have h70 : jn = 70 := rfl
            omega
          · rw [← q, hz] at z; cases z) (e1 _ _ hz)
        have hlen2 : (ids ++ [y1]).length = (cs ++ [y]).length := by rw [List.length_append, List.length_append, hlen]; rfl
        have hl1 : (ids ++ [y1]).length = ids.length + 1 := by rw [List.length_append]; rfl
        have hD2 : ∀ i, i < (ids ++ [y1]).length → Den s2 S2 (CondF ((ids ++ [y1]).getD i 0) ((D + 1)) ((cs ++ [y]).getD i (fun _ => false))) := by
          intro i hi
          rw [getD_app]
          by_cases z : i < ids.length
          · rw [if_pos z, List.getD_eq_getElem?_getD (l := cs ++ [y]), List.getElem?_append_left (by omega), ← List.getD_eq_getElem?_getD]
            exact g5 _ (hD i z)
          · have zi : i = ids.length := by omega
            rw [if_neg z, if_pos zi, List.getD_eq_getElem?_getD (l := cs ++ [y]), List.getElem?_append_right (by omega), show i - cs.length = 0 by omega]
            exact g6
        show ∃ c128 n128 c228 n228 : Nat, c128 + c228 ≤ c - c1 - 1 ∧ n128 + n228 ≤ n - m1 - (10 + 2 * ids.length) ∧ wX3_passes (x + 109) s2 (cx V (x + 109) e bg1 d) R c128 n128 36 _
        refine ⟨10, 64 + 5 * wl T L e, c - c1 - 11, n - m1 - (10 + 2 * ids.length) - (64 + 5 * wl T L e), by omega, by omega, s3_passes (w := tw 18) (by decide) (g1.con hC) (fun sh' h V R => str_18 h.g) (g1.reg (reg3 hX)) hT he.2 (by omega) (by exact Nat.le_refl _) (fun s3 e3 => ?_)⟩
        have hz3 := e3 _ _ hz2
        have g13 := g1.trans e3
        have hL3 : ListS s3 h k2 (ids ++ [y1]) := by
          obtain ⟨l1, ⟨v, l2⟩, l3⟩ := g2
          refine ⟨l1, ⟨v, e3 _ _ l2⟩, l3.imp (fun z => z) (fun z => ?_)⟩
          obtain ⟨z1, z2, N, f, q1, q2, q3, q4, q5, q6⟩ := z
          exact ⟨z1, z2, N, f, e3 _ _ q1, q2, q3, q4, q5, fun i y hy => (q6 i y hy).ext e3⟩
        have hl3 := e3.len
        have hS3 : ∀ j, S2 j → sh.length ≤ j ∧ j < s3.length ∧ j ≠ h ∧ j ≠ k2 := fun j hj => ⟨(g4 j hj).1, by have := (g4 j hj).2.1; omega, (g4 j hj).2.2⟩
        have hD3 : ∀ i, i < (ids ++ [y1]).length → Den s3 S2 (CondF ((ids ++ [y1]).getD i 0) ((D + 1)) ((cs ++ [y]).getD i (fun _ => false))) := fun i hi => (hD2 i hi).ext e3
        split
        · next z =>
          rw [if_pos z] at hq1
          rw [hx2] at hq1
          have h2 := hwB z
          rcases bud with ⟨-, b1, b2, b3⟩ | ⟨z9, -⟩
          · exact ⟨g13.reg hX, fun _ => ih s3 k2 (ids ++ [y1]) (cs ++ [y]) (afW (tw 18) T L e) _ _ _ (by omega) h2.2.2 g13 hz3 hL3 g3 S2 hS3 hlen2 (by omega) hD3 (by omega) (by omega) hq1, fun w => absurd w (by decide)⟩
          · exact absurd z z9
        · next z =>
          rw [if_neg z] at hq1
          exact ⟨g13.reg hX, fun w => absurd rfl w, fun _ => hq1 s3 sh.length _ g13 (Nat.le_refl _) ⟨9, _, hj, Or.inl ⟨_, hz3⟩, rfl, nw2817⟩ (den_row (al := false) hj (Nat.le_refl _) hh g3 hz3 hL3 hlen2 (by omega) (fun j hj => (g4 j hj).1) hD3 (fun F => congrFun hx2 F))⟩
  have h0 : pSome P T L a = pB ((pEvery P T L) a) (fun y9 a1 => pLoop (tw 18) ((pEvery P T L)) or T L L (fun F => bop false (([] : List Cd).foldl (fun v e => bop false v (e F)) false) (y9 F)) a1) := by
    unfold pSome
    congr 1
    try (funext y9 a1; rw [show (fun F => bop false (([] : List Cd).foldl (fun v e => bop false v (e F)) false) (y9 F)) = y9 by funext F; exact bop_base])
  rw [h0] at hq hc hn
  refine ⟨_, lp L s4 64 [] [] a b (c - 2) (n - 5) (by omega) ha e4 z0 zL (Or.inl rfl) (fun _ => False) (fun j z => z.elim) rfl (Nat.zero_le _) (fun i hi => absurd hi (by simp)) (by omega) (by show _ + 2 * 0 + _ ≤ _; omega) hq⟩
end CO
