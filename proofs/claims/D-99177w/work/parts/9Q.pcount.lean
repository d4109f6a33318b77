/-! ===== PURE: how many ways: two ways of counting ===== -/
section CN
variable {m : Nat → Int32} {u v : Nat → Int32}
theorem core_iff {w : Nat → Int32} {b k : Nat} (hb : b < 2 ^ 31) (hk : k < 2 ^ 31) : f_core w b (nI k) = true ↔ w k < w b ∨ (w b = w k ∧ b < k) := by
  unfold f_core
  rw [if_neg (nI_nm1 hk), nI_clamp hk]
  by_cases z : w k < w b
  · rw [if_pos z]; exact ⟨fun _ => Or.inl z, fun _ => rfl⟩
  · rw [if_neg z]
    by_cases z2 : w b = w k
    · rw [if_pos z2]
      by_cases z3 : nI k ≤ nI b
      · rw [decide_eq_true z3]
        have := (nI_leI hk hb).1 z3
        exact ⟨fun q => absurd q (by decide), fun q => q.elim (fun q => absurd q z) (fun q => by omega)⟩
      · rw [decide_eq_false z3]
        have : ¬ k ≤ b := fun q => z3 ((nI_leI hk hb).2 q)
        exact ⟨fun _ => Or.inr ⟨z2, by omega⟩, fun _ => rfl⟩
    · rw [if_neg z2]
      exact ⟨fun q => absurd q (by decide), fun q => q.elim (fun q => absurd q z) (fun q => absurd q.1 z2)⟩
theorem core_pref {A B : Nat} {p : Nat → Nat → Bool} {w : Nat → Nat → Int32} (hB : B ≤ 8) : prefOk A B (fun a b f => p a b && f_core (w a) b f) := by
  have e : ∀ a b c, b < B → c < B → ((p a b && f_core (w a) b (nI c)) = true ↔ p a b = true ∧ (w a c < w a b ∨ (w a b = w a c ∧ b < c))) := fun a b c hb hc => by
    rw [Bool.and_eq_true, core_iff (by omega) (by omega)]
  have e1 : ∀ a b, (p a b && f_core (w a) b (-1)) = true ↔ p a b = true := fun a b => by
    have : f_core (w a) b (-1) = true := if_pos rfl
    rw [this, Bool.and_true]
  refine ⟨fun a b c _ hb hc h => ?_, fun a b c _ hb hc h h2 => ?_, fun a b c d _ hb hc hd h h2 => ?_, fun a b c _ hb hc hn h h2 => ?_⟩
  · have h : (p a b && f_core (w a) b (nI c)) = true := h
    exact (e1 a b).2 ((e a b c hb hc).1 h).1
  · have h := ((e a b c hb hc).1 h).2
    have h2 := ((e a c b hc hb).1 h2).2
    rcases h with h | h
    · rcases h2 with h2 | h2
      · exact Int32.lt_asymm h h2
      · rw [h2.1] at h; exact absurd h Int32.lt_irrefl
    · rcases h2 with h2 | h2
      · rw [h.1] at h2; exact absurd h2 Int32.lt_irrefl
      · omega
  · have h := (e a b c hb hc).1 h
    have h2 := (e a c d hc hd).1 h2
    refine (e a b d hb hd).2 ⟨h.1, ?_⟩
    rcases h.2 with h | h
    · rcases h2.2 with h2 | h2
      · exact Or.inl (Int32.lt_trans h2 h)
      · rw [h2.1] at h; exact Or.inl h
    · rcases h2.2 with h2 | h2
      · rw [← h.1] at h2; exact Or.inl h2
      · exact Or.inr ⟨h.1.trans h2.1, by omega⟩
  · have h := (e1 a b).1 h
    have h2 := (e1 a c).1 h2
    by_cases z : w a c < w a b
    · exact Or.inl ((e a b c hb hc).2 ⟨h, Or.inl z⟩)
    · by_cases z2 : w a b < w a c
      · exact Or.inr ((e a c b hc hb).2 ⟨h2, Or.inl z2⟩)
      · have z3 : w a b = w a c := Int32.le_antisymm (Int32.not_lt.1 z) (Int32.not_lt.1 z2)
        by_cases z4 : b < c
        · exact Or.inl ((e a b c hb hc).2 ⟨h, Or.inr ⟨z3, z4⟩⟩)
        · exact Or.inr ((e a c b hc hb).2 ⟨h2, Or.inr ⟨z3.symm, by omega⟩⟩)
theorem pref_h (hR : RowOk m) : prefOk (nH m) (nG m) (f_hr m) := core_pref (p := fun h g => decide (f_may m h g)) (w := fun h k => m (67 + 8 * h + k)) hR.G8
theorem pref_g (hR : RowOk m) : prefOk (nG m) (nH m) (f_gr m) := core_pref (p := fun g h => decide (f_may m h g)) (w := fun g k => m (131 + 8 * g + k)) hR.H8
theorem pref_acc {h g : Nat} : f_hr m h g (-1) = true ↔ f_may m h g := by
  unfold f_hr f_core
  rw [if_pos rfl, Bool.and_true, decide_eq_true_iff]
theorem pref_accg {h g : Nat} : f_gr m g h (-1) = true ↔ f_may m h g := by
  unfold f_gr f_core
  rw [if_pos rfl, Bool.and_true, decide_eq_true_iff]
theorem pref_sym : ∀ a b, a < nH m → b < nG m → (f_hr m a b (-1) = true ↔ f_gr m b a (-1) = true) := fun a b _ _ => by rw [pref_acc, pref_accg]
theorem sum01 {p : Nat → Bool} {N : Nat} : ∀ (k i : Nat) (c : Nat), c + k ≤ N → ∃ d, d ≤ c + k ∧ fo (fun g (n : Int32) => n + (if p g = true then 1 else 0)) k i (nI c) = nI d ∧ (d = 0 ↔ c = 0 ∧ ∀ g, i ≤ g → g < i + k → ¬ p g = true) := by
  intro k
  induction k with
  | zero => intro i c _; exact ⟨c, by omega, rfl, ⟨fun z => ⟨z, fun g h1 h2 => by omega⟩, fun z => z.1⟩⟩
  | succ k ih =>
    intro i c hc
    by_cases z : p i = true
    · obtain ⟨d, d1, d2, d3⟩ := ih (i + 1) (c + 1) (by omega)
      refine ⟨d, by omega, ?_, ?_⟩
      · show fo (fun g (n : Int32) => n + (if p g = true then 1 else 0)) k (i + 1) (nI c + (if p i = true then 1 else 0)) = nI d
        rw [if_pos z, nI_1]; exact d2
      · rw [d3]
        exact ⟨fun q => absurd q.1 (by omega), fun q => absurd z (q.2 i (by omega) (by omega))⟩
    · obtain ⟨d, d1, d2, d3⟩ := ih (i + 1) c (by omega)
      refine ⟨d, by omega, ?_, ?_⟩
      · show fo (fun g (n : Int32) => n + (if p g = true then 1 else 0)) k (i + 1) (nI c + (if p i = true then 1 else 0)) = nI d
        rw [if_neg z, Int32.add_zero]; exact d2
      · rw [d3]
        refine and_congr Iff.rfl ⟨fun q g h1 h2 => ?_, fun q g h1 h2 => q g (by omega) (by omega)⟩
        by_cases e : g = i
        · rw [e]; exact z
        · exact q g (by omega) (by omega)
theorem rathers_0 (hR : RowOk m) : f_rathers m u v = 0 ↔ ∀ h g, h < nH m → g < nG m → ¬ f_pair m u v h g = true := by
  have h8 := hR.H8; have g8 := hR.G8
  have key : ∀ (k i c : Nat), c + 8 * k ≤ 1000 → ∃ d, d ≤ c + 8 * k ∧ fo (fun h n => fo (fun g n => n + (if f_pair m u v h g = true then 1 else 0)) (nG m) 0 n) k i (nI c) = nI d ∧ (d = 0 ↔ c = 0 ∧ ∀ h, i ≤ h → h < i + k → ∀ g, g < nG m → ¬ f_pair m u v h g = true) := by
    intro k
    induction k with
    | zero => intro i c _; exact ⟨c, by omega, rfl, ⟨fun z => ⟨z, fun g h1 h2 => by omega⟩, fun z => z.1⟩⟩
    | succ k ih =>
      intro i c hc
      obtain ⟨e, e1, e2, e3⟩ := sum01 (p := f_pair m u v i) (N := 1000) (nG m) 0 c (by omega)
      obtain ⟨d, d1, d2, d3⟩ := ih (i + 1) e (by omega)
      refine ⟨d, by omega, ?_, ?_⟩
      · show fo (fun h n => fo (fun g n => n + (if f_pair m u v h g = true then 1 else 0)) (nG m) 0 n) k (i + 1) (fo (fun g n => n + (if f_pair m u v i g = true then 1 else 0)) (nG m) 0 (nI c)) = nI d
        rw [e2]; exact d2
      · rw [d3, e3]
        constructor
        · rintro ⟨⟨h1, h2⟩, h3⟩
          refine ⟨h1, fun h q1 q2 g hg => ?_⟩
          by_cases z : h = i
          · rw [z]; exact h2 g (by omega) (by omega)
          · exact h3 h (by omega) (by omega) g hg
        · rintro ⟨h1, h2⟩
          exact ⟨⟨h1, fun g _ hg => h2 i (by omega) (by omega) g (by omega)⟩, fun h q1 q2 => h2 h (by omega) (by omega)⟩
  obtain ⟨d, d1, d2, d3⟩ := key (nH m) 0 0 (by omega)
  have e : f_rathers m u v = nI d := d2
  rw [e]
  constructor
  · intro z h g hh hg
    have : d = 0 := nI_inj (by omega) (by decide) z
    exact (d3.1 this).2 h (by omega) (by omega) g hg
  · intro z
    have : d = 0 := d3.2 ⟨rfl, fun h _ q g hg => z h g (by omega) hg⟩
    rw [this]; rfl
/-- whether a host has somebody in the way that is best for the hosts -/
def wayH (m : Nat → Int32) : GS := gsWay (f_hr m) (f_gr m) (nH m) (nG m)
def wayG (m : Nat → Int32) : GS := gsWay (f_gr m) (f_hr m) (nG m) (nH m)
def hsP (m : Nat → Int32) (h : Nat) : Bool := !decide ((wayH m).1 h = -1)
/-- how many ways there are behind what hosts before h have -/
def cnt (m : Nat → Int32) (c : Nat → Nat → Bool) : Nat → Nat → (Nat → Int32) → (Nat → Int32) → Nat
  | 0, _, u, v => if f_rathers m u v = 0 then 1 else 0
  | k + 1, h, u, v => if hsP m h = true then fo (fun g n => n + if v g = -1 ∧ c h g = true then cnt m c k (h + 1) (upd u h (nI g)) (upd v g (nI h)) else 0) (nG m) 0 0 else cnt m c k (h + 1) u v
/-- u and v tell of the hosts before h -/
def Upto (m : Nat → Int32) (h : Nat) (u v : Nat → Int32) : Prop :=
  (∀ k, k < nH m → h ≤ k → u k = -1) ∧
  (∀ k, k < h → k < nH m → (hsP m k = false ∧ u k = -1) ∨ (hsP m k = true ∧ ∃ g, g < nG m ∧ u k = nI g ∧ v g = nI k ∧ f_may m k g)) ∧
  (∀ g, g < nG m → v g = -1 ∨ ∃ k, k < h ∧ k < nH m ∧ v g = nI k ∧ u k = nI g)
theorem Upto.none (h8 : nH m ≤ 8) {h : Nat} (hu : Upto m h u v) (hh : h < nH m) (hn : ¬ hsP m h = true) : Upto m (h + 1) u v := by
  obtain ⟨u1, u2, u3⟩ := hu
  refine ⟨fun k hk h2 => u1 k hk (by omega), fun k hk hk2 => ?_, fun g hg => (u3 g hg).imp id (fun ⟨k, h1, h2⟩ => ⟨k, by omega, h2⟩)⟩
  by_cases z : k = h
  · subst z
    exact Or.inl ⟨by simpa using hn, u1 k hk2 (Nat.le_refl _)⟩
  · exact u2 k (by omega) hk2
theorem Upto.put (h8 : nH m ≤ 8) (g8 : nG m ≤ 8) {h g : Nat} (hu : Upto m h u v) (hh : h < nH m) (hg : g < nG m) (hn : hsP m h = true) (hv : v g = -1) (hm : f_may m h g) : Upto m (h + 1) (upd u h (nI g)) (upd v g (nI h)) := by
  obtain ⟨u1, u2, u3⟩ := hu
  refine ⟨fun k hk h2 => by rw [upd_n (by omega)]; exact u1 k hk (by omega), fun k hk hk2 => ?_, fun k hk => ?_⟩
  · by_cases z : k = h
    · subst z
      exact Or.inr ⟨hn, g, hg, upd_s, upd_s, hm⟩
    · rw [upd_n z]
      refine (u2 k (by omega) hk2).imp id (fun ⟨a, g2, h1, h2, h3, h4⟩ => ⟨a, g2, h1, h2, ?_, h4⟩)
      rw [upd_n (fun q => by rw [q, hv] at h3; exact nI_nm1 (by omega) h3.symm)]
      exact h3
  · by_cases z : k = g
    · subst z
      exact Or.inr ⟨h, by omega, hh, upd_s, upd_s⟩
    · rw [upd_n z]
      refine (u3 k hk).imp id (fun ⟨a, h1, h2, h3, h4⟩ => ⟨a, by omega, h2, h3, ?_⟩)
      rw [upd_n (by omega)]
      exact h4
theorem Upto.stab (hR : RowOk m) (hu : Upto m (nH m) u v) (hr : f_rathers m u v = 0) : Stab (nH m) (nG m) (f_hr m) (f_gr m) u v ∧ ∀ a, a < nH m → ((wayH m).1 a = -1 ↔ u a = -1) := by
  have h8 := hR.H8; have g8 := hR.G8
  obtain ⟨u1, u2, u3⟩ := hu
  refine ⟨⟨fun a ha => ?_, fun g hg => (u3 g hg).imp id (fun ⟨k, _, h2, h3⟩ => ⟨k, h2, h3⟩), fun a b ha hb h1 h2 => ?_⟩, fun a ha => ?_⟩
  · rcases u2 a ha ha with ⟨_, q⟩ | ⟨_, g, q1, q2, q3, q4⟩
    · exact Or.inl q
    · exact Or.inr ⟨g, q1, q2, q3, pref_acc.2 q4⟩
  · refine (rathers_0 hR).1 hr a b ha hb ?_
    unfold f_pair
    rw [h1, h2]
    have : ¬ u a = nI b := fun q => by rw [q] at h1; exact pref_irr (pref_h hR) ha hb h1
    rw [decide_eq_false this]
    rfl
  · rcases u2 a ha ha with ⟨q0, q⟩ | ⟨q0, g, q1, q2, _⟩
    · refine ⟨fun _ => q, fun _ => ?_⟩
      unfold hsP at q0
      simpa using q0
    · refine ⟨fun z => ?_, fun z => ?_⟩
      · unfold hsP at q0
        rw [decide_eq_true z] at q0
        exact absurd q0 (by decide)
      · rw [z] at q2; exact absurd q2.symm (nI_nm1 (by omega))
/-- what holds for the guests of all ways -/
def allW (m : Nat → Int32) (P : Nat → Nat → Bool) : Prop := ∀ u v, Stab (nH m) (nG m) (f_hr m) (f_gr m) u v → (∀ a, a < nH m → ((wayH m).1 a = -1 ↔ u a = -1)) → ∀ h g, h < nH m → g < nG m → u h = nI g → P h g = true
theorem fo_zero {f : Nat → Nat} (B : Nat) : ∀ k i n, i + k ≤ B → (∀ g, g < B → f g = 0) → fo (fun g n => n + f g) k i n = n := by
  intro k
  induction k with
  | zero => intro i n _ _; rfl
  | succ k ih =>
    intro i n hi h
    show fo (fun g n => n + f g) k (i + 1) (n + f i) = n
    rw [h i (by omega), Nat.add_zero]
    exact ih (i + 1) n (by omega) h
theorem cnt_zero {c P : Nat → Nat → Bool} (hR : RowOk m) (hc : ∀ h g, c h g = true → f_may m h g) (hP : allW m P) {h0 g0 : Nat} (hg0 : g0 < nG m) (hb : ¬ P h0 g0 = true) : ∀ (k h : Nat) (u v : Nat → Int32), h + k = nH m → h0 < h → u h0 = nI g0 → Upto m h u v → cnt m c k h u v = 0 := by
  intro k
  induction k with
  | zero =>
    intro h u v hk hh0 e hu
    obtain rfl : h = nH m := hk
    show (if f_rathers m u v = 0 then 1 else 0) = 0
    rw [if_neg]
    intro hr
    obtain ⟨s1, s2⟩ := hu.stab hR hr
    exact hb (hP u v s1 s2 h0 g0 hh0 hg0 e)
  | succ k ih =>
    intro h u v hk hh0 e hu
    have h8 := hR.H8; have g8 := hR.G8
    rw [cnt]
    split
    · next z =>
      refine fo_zero (f := fun g => if v g = -1 ∧ c h g = true then cnt m c k (h + 1) (upd u h (nI g)) (upd v g (nI h)) else 0) (nG m) (nG m) 0 0 (by omega) (fun g hg => ?_)
      show (if v g = -1 ∧ c h g = true then cnt m c k (h + 1) (upd u h (nI g)) (upd v g (nI h)) else 0) = 0
      split
      · next y => exact ih (h + 1) _ _ (by omega) (by omega) (by rw [upd_n (by omega)]; exact e) (hu.put h8 g8 (by omega) hg z y.1 (hc h g y.2))
      · rfl
    · next z => exact ih (h + 1) u v (by omega) (by omega) e (hu.none h8 (by omega) z)
theorem cnt_and {c P : Nat → Nat → Bool} (hR : RowOk m) (hc : ∀ h g, c h g = true → f_may m h g) (hP : allW m P) : ∀ (k h : Nat) (u v : Nat → Int32), h + k = nH m → Upto m h u v → cnt m c k h u v = cnt m (fun h g => c h g && P h g) k h u v := by
  intro k
  induction k with
  | zero => intro h u v _ _; rfl
  | succ k ih =>
    intro h u v hk hu
    have h8 := hR.H8; have g8 := hR.G8
    rw [cnt, cnt]
    split
    · next z =>
      refine fo_congr _ _ _ (fun g n _ hg => ?_)
      congr 1
      by_cases y : v g = -1 ∧ c h g = true
      · rw [if_pos y]
        have hu2 := hu.put h8 g8 (by omega) (by omega) z y.1 (hc h g y.2)
        by_cases p : P h g = true
        · rw [if_pos ⟨y.1, by rw [y.2, p]; rfl⟩]
          exact ih (h + 1) _ _ (by omega) hu2
        · rw [if_neg (fun q => p (by have := q.2; rw [Bool.and_eq_true] at this; exact this.2))]
          exact cnt_zero hR hc hP (h0 := h) (g0 := g) (by omega) p k (h + 1) _ _ (by omega) (by omega) upd_s hu2
      · rw [if_neg y, if_neg (fun q => y ⟨q.1, by have := q.2; rw [Bool.and_eq_true] at this; exact this.1⟩)]
    · next z => exact ih (h + 1) u v (by omega) (hu.none h8 (by omega) z)
def betP (m : Nat → Int32) (h g : Nat) : Bool := decide (nI g = (wayH m).1 h ∨ f_hr m h ((wayH m).1 h).toNatClampNeg (nI g) = true) && decide (nI g = (wayG m).2.1 h ∨ f_hr m h g ((wayG m).2.1 h) = true)
def inP (m : Nat → Int32) (_ g : Nat) : Bool := !decide ((wayH m).2.1 g = -1)
theorem all_in (hR : RowOk m) : allW m (inP m) := fun u v hU hm h g hh hg e => by
  unfold inP
  have h2 : ¬ (wayH m).2.1 g = -1 := way_same (pref_h hR) (pref_g hR) pref_sym hR.H8 hR.G8 hU hm hh hg e
  rw [decide_eq_false h2]
  rfl
theorem all_bet (hR : RowOk m) : allW m (betP m) := fun u v hU hm h g hh hg e => by
  have h8 := hR.H8; have g8 := hR.G8
  have hp1 := pref_h hR; have hp2 := pref_g hR
  have hsy : ∀ a b, a < nG m → b < nH m → (f_gr m a b (-1) = true ↔ f_hr m b a (-1) = true) := fun a b ha hb => (pref_sym b a hb ha).symm
  obtain ⟨g', hg', eg', ev, hac⟩ := (hU.1 h hh).resolve_left (by rw [e]; exact nI_nm1 (by omega))
  have : g' = g := nI_inj (by omega) (by omega) (eg'.symm.trans e)
  subst this
  unfold betP
  rw [Bool.and_eq_true, decide_eq_true_iff, decide_eq_true_iff]
  constructor
  · obtain ⟨b, hb, eb, h3⟩ := way_best hp1 hp2 pref_sym h8 g8 hU hh hg e
    have eb : (wayH m).1 h = nI b := eb
    rw [eb, nI_clamp (by omega)]
    exact h3.imp (fun q => by rw [q]) id
  · have hF := hU.flip pref_sym g8
    obtain ⟨w1, w2⟩ := way_pairs (r1 := f_gr m) (r2 := f_hr m) g8 h8 hp2 hp1 hsy
    rcases w2 h hh with q | ⟨b, hb, q, q2⟩
    · have q : (wayG m).2.1 h = -1 := q
      rw [q]; exact Or.inr hac
    · have q : (wayG m).2.1 h = nI b := q
      rw [q]
      by_cases z : g' = b
      · exact Or.inl (by rw [z])
      · refine Or.inr ((hp1.2.2.2 h g' b hh hg hb z hac ?_).resolve_right (fun w => ?_))
        · obtain ⟨h', hh', e', _, hac'⟩ := (w1 b hb).resolve_left (by rw [q2]; exact nI_nm1 (by omega))
          have : h' = h := nI_inj (by omega) (by omega) (e'.symm.trans q2)
          subst this
          exact (hsy b h' hb hh').1 hac'
        · refine hU.2.2 h b hh hb (by rw [e]; exact w) ?_
          rcases hU.2.1 b hb with y | ⟨k, hk, y, y2⟩
          · rw [y]
            obtain ⟨h', hh', e', _, hac'⟩ := (w1 b hb).resolve_left (by rw [q2]; exact nI_nm1 (by omega))
            have : h' = h := nI_inj (by omega) (by omega) (e'.symm.trans q2)
            subst this
            exact hac'
          · rw [y]
            obtain ⟨b2, hb2, eb2, h3⟩ := way_best hp2 hp1 hsy g8 h8 hF hb hk y
            have : b2 = h := nI_inj (by omega) (by omega) (eb2.symm.trans q2)
            subst this
            refine h3.resolve_left (fun y3 => ?_)
            subst y3
            exact z (nI_inj (by omega) (by omega) (e.symm.trans y2))
def mayP (m : Nat → Int32) (h g : Nat) : Bool := decide (f_may m h g)
/-- how many ways there are -/
def f_ways (m : Nat → Int32) : Nat := cnt m (fun h g => mayP m h g && inP m h g) (nH m) 0 (fun _ => -1) (fun _ => -1)
theorem Upto_0 : Upto m 0 (fun _ => -1) (fun _ => -1) := ⟨fun _ _ _ => rfl, fun k hk => absurd hk (Nat.not_lt_zero _), fun _ _ => Or.inl rfl⟩
theorem ways_eq (hR : RowOk m) : cnt m (fun h g => mayP m h g && betP m h g) (nH m) 0 (fun _ => -1) (fun _ => -1) = f_ways m := by
  unfold f_ways
  rw [cnt_and hR (fun h g q => of_decide_eq_true (by rw [Bool.and_eq_true] at q; exact q.1)) (all_in hR) (nH m) 0 _ _ (by omega) Upto_0]
  rw [cnt_and (c := fun h g => mayP m h g && inP m h g) hR (fun h g q => of_decide_eq_true (by rw [Bool.and_eq_true] at q; exact q.1)) (all_bet hR) (nH m) 0 _ _ (by omega) Upto_0]
  congr 1
  funext h g
  rw [Bool.and_assoc, Bool.and_assoc, Bool.and_comm (betP m h g)]
end CN
