/-! ===== PURE: cells made behind a heap; a new world ===== -/
section NW
variable {pre rest : List jC} {c n : Nat}
theorem mid_app {a : jC} {ys : List jC} : (pre ++ a :: rest) ++ ys = pre ++ a :: (rest ++ ys) := by simp
theorem mid_set {a b : jC} : (pre ++ a :: rest).set pre.length b = pre ++ b :: rest := by
  rw [List.set_append_right _ _ (Nat.le_refl _), Nat.sub_self]
  rfl
theorem mid_at {a : jC} : (pre ++ a :: rest)[pre.length]? = some a := by
  rw [List.getElem?_append_right (Nat.le_refl _), Nat.sub_self]
  rfl
theorem mid_len {a : jC} : (pre ++ a :: rest).length = pre.length + (rest.length + 1) := by simp
theorem rP {P : List jC → Prop} {cl i : Nat} {fs : List Value} {v : Value} (hj : jn ≤ pre.length) (hi : i < fs.length) (k : P (pre ++ .inr (cl, fs.set i v) :: rest)) : ∃ fs6 : List Value, (pre ++ .inr (cl, fs) :: rest)[pre.length]? = some (.inr (cl, fs6)) ∧ jn ≤ pre.length ∧ i < fs6.length ∧ (∀ g6 : List jC, g6 = (pre ++ .inr (cl, fs) :: rest).set pre.length (.inr (cl, fs6.set i v)) → P g6) :=
  ⟨fs, mid_at, hj, hi, nm_r mid_set k⟩
/-- an int array made, and kept in a field -/
theorem rN {Q : List jC → Nat → Nat → Prop} {cl i ty N sz : Nat} {fs : List Value} {M : Int32} {o : Nat} (hj : jn ≤ pre.length) (hi : i < fs.length) (hM : ¬ M < 0) (hN : M.toNatClampNeg = N) (hs : N * sz ≤ 536870912) (ho : rest.length + 1 = o) (hc : 1 ≤ c) (hn : N ≤ n) (k : Q (pre ++ .inr (cl, fs.set i (.ref (pre.length + o))) :: (rest ++ [.inl (ty, N, .inl (fun _ => 0))])) (c - 1) (n - N)) : ¬ M < 0 ∧ ∃ N12 c12 n12, M.toNatClampNeg = N12 ∧ N12 * sz ≤ 536870912 ∧ c = c12 + 1 ∧ n = n12 + N12 ∧ (∀ q12, q12 = (pre ++ .inr (cl, fs) :: rest).length → (∀ g12 : List jC, g12 = (pre ++ .inr (cl, fs) :: rest) ++ [.inl (ty, N12, .inl (fun _ => 0))] → (∃ fs14 : List Value, g12[pre.length]? = some (.inr (cl, fs14)) ∧ jn ≤ pre.length ∧ i < fs14.length ∧ (∀ g14 : List jC, g14 = g12.set pre.length (.inr (cl, fs14.set i (.ref q12))) → Q g14 c12 n12)))) := by
  subst hN
  refine ⟨hM, _, c - 1, n - M.toNatClampNeg, rfl, hs, by omega, by omega, nm_r (e' := pre.length + o) (by rw [mid_len, ho]) (nm_r mid_app ?_)⟩
  exact rP (P := fun g => Q g (c - 1) (n - M.toNatClampNeg)) hj hi k
/-- eight rows of eight made, and kept in a field -/
theorem rG {Q : List jC → Nat → Nat → Prop} {cl i : Nat} {fs : List Value} {o : Nat} (hj : jn ≤ pre.length) (hi : i < fs.length) (ho : rest.length + 1 = o) (hc : 9 ≤ c) (hn : 72 ≤ n) (k : Q (pre ++ .inr (cl, fs.set i (.ref (pre.length + o))) :: (rest ++ .inl (4, 8, .inr (.inr (.inr (.inr (fun j => if j < 8 then some (pre.length + o + 1 + j) else none))))) :: List.replicate 8 (.inl (0, 8, .inl (fun _ => 0))))) (c - 9) (n - 72)) : ∃ c94 n94, c = c94 + (1 + 8) ∧ n = n94 + (8 + 8 * 8) ∧ (∀ q94, q94 = (pre ++ .inr (cl, fs) :: rest).length → (∀ g94 : List jC, g94 = (pre ++ .inr (cl, fs) :: rest) ++ (.inl (4, 8, .inr (.inr (.inr (.inr (fun j => if j < 8 then some ((pre ++ .inr (cl, fs) :: rest).length + 1 + j) else none))))) :: List.replicate 8 (.inl (0, 8, .inl (fun _ => 0)))) → (∃ fs98 : List Value, g94[pre.length]? = some (.inr (cl, fs98)) ∧ jn ≤ pre.length ∧ i < fs98.length ∧ (∀ g98 : List jC, g98 = g94.set pre.length (.inr (cl, fs98.set i (.ref q94))) → Q g98 c94 n94)))) := by
  have e : (pre ++ .inr (cl, fs) :: rest : List jC).length = pre.length + o := by rw [mid_len, ho]
  refine ⟨c - 9, n - 72, by omega, by omega, nm_r e ?_⟩
  rw [e]
  exact nm_r mid_app (rP (P := fun g => Q g (c - 9) (n - 72)) hj hi k)
end NW
section NW2
variable {sh : List jH} {V : Nat → Nat → Int32} {R : Nat → Nat → Option Nat} {c n : Nat}
/-- the ints of a new world -/
def wNew : Nat → Nat → Int32 := fun b j => if b = 0 ∧ j = 8 then 1 else 0
set_option maxRecDepth 100000 in
theorem w2_cells {L : Nat} {V' : Nat → Nat → Int32} {R' : Nat → Nat → Option Nat} (hV : ∀ b, V' (L + b) = wNew b) (hR : ∀ b, R' (L + b) = fun _ => none) : shX2.mapIdx (fun j s => jco V' R' (L + j) s) = (.inr (1, [.int 0, .int 0, .int 0, .int 0, .int 0, .int 0, .int 0, .int 0, .int 1, .ref (L + 1), .ref (L + 2), .ref (L + 3), .ref (L + 4), .ref (L + 5), .ref (L + 6), .ref (L + 7), .ref (L + 8), .ref (L + 17), .ref (L + 26), .ref (L + 35), .null, .int 0]) : jC) :: (List.replicate 7 (.inl (0, 8, .inl (fun _ => 0))) ++ (.inl (4, 8, .inr (.inr (.inr (.inr (fun j => if j < 8 then some (L + 8 + 1 + j) else none))))) :: List.replicate 8 (.inl (0, 8, .inl (fun _ => 0)))) ++ (.inl (4, 8, .inr (.inr (.inr (.inr (fun j => if j < 8 then some (L + 17 + 1 + j) else none))))) :: List.replicate 8 (.inl (0, 8, .inl (fun _ => 0)))) ++ (.inl (4, 8, .inr (.inr (.inr (.inr (fun j => if j < 8 then some (L + 26 + 1 + j) else none))))) :: List.replicate 8 (.inl (0, 8, .inl (fun _ => 0)))) ++ [.inl (0, 360, .inl (fun _ => 0))]) := by
  have h0 : ∀ b j, V' (L + b) j = if b = 0 ∧ j = 8 then 1 else 0 := fun b j => by rw [hV]; rfl
  have hr : ∀ b, V' (L + (b + 1)) = fun _ => 0 := fun b => by rw [hV]; funext j; exact if_neg (fun z => by omega)
  have hr1 : ∀ b, 0 < b → V' (L + b) = fun _ => 0 := fun b hb => by obtain ⟨k, rfl⟩ : ∃ k, b = k + 1 := ⟨b - 1, by omega⟩; exact hr k
  have z0 : V' L 0 = 0 ∧ V' L 1 = 0 ∧ V' L 2 = 0 ∧ V' L 3 = 0 ∧ V' L 4 = 0 ∧ V' L 5 = 0 ∧ V' L 6 = 0 ∧ V' L 7 = 0 ∧ V' L 8 = 1 ∧ V' L 21 = 0 := ⟨h0 0 0, h0 0 1, h0 0 2, h0 0 3, h0 0 4, h0 0 5, h0 0 6, h0 0 7, h0 0 8, h0 0 21⟩
  have r0 : R' L 20 = none := by rw [show L = L + 0 from rfl, hR]
  unfold shX2
  simp only [List.mapIdx_cons, List.mapIdx_nil, jco, jfd, va_rf, hr1, z0, r0, Nat.add_zero, List.replicate, List.cons_append, List.nil_append, Nat.zero_lt_succ, Nat.zero_add, Nat.reduceAdd, Nat.reduceLT, gt_iff_lt]
set_option maxRecDepth 100000 in
theorem w2_init {Q : List jC → Prop} (hj : jn ≤ sh.length) (hc : 35 ≤ c) (hn : 632 ≤ n) (hq : ∀ V' R', (∀ b, b < sh.length → V' b = V b) → (∀ b, b < sh.length → R' b = R b) → (∀ b, V' (sh.length + b) = wNew b) → Q (mk (sh ++ shX2) V' R')) : wX2_init (mk (sh ++ [jF (.inr (1, [.int 0, .int 0, .int 0, .int 0, .int 0, .int 0, .int 0, .int 0, .int 0, .null, .null, .null, .null, .null, .null, .null, .null, .null, .null, .null, .null, .int 0]))]) V R) c n sh.length Q := by
  rw [← mk_pushF]
  have el : (mk sh V R).length = sh.length := mk_len _ _ _
  have hj2 : jn ≤ (mk sh V R).length := by rw [el]; exact hj
  have fin : Q (mk sh V R ++ shX2.mapIdx (fun j s => jco (fun b => if b < sh.length then V b else wNew (b - sh.length)) (fun b => if b < sh.length then R b else fun _ => none) (sh.length + j) s)) := by
    have h := hq (fun b => if b < sh.length then V b else wNew (b - sh.length)) (fun b => if b < sh.length then R b else fun _ => none) (fun b hb => if_pos hb) (fun b hb => if_pos hb) (fun b => by rw [if_neg (by omega), show sh.length + b - sh.length = b by omega])
    rw [mk_app (V := V) (R := R) (fun k hk => if_pos hk) (fun k hk => if_pos hk)] at h
    exact h
  rw [w2_cells (fun b => by rw [if_neg (by omega), show sh.length + b - sh.length = b by omega]) (fun b => if_neg (by omega)), ← el] at fin
  rw [← el]
  generalize mk sh V R = pre at hj2 fin ⊢
  unfold wX2_init
  refine rP (rest := []) hj2 (by show 8 < 22; decide) ?_
  refine rN (o := 1) hj2 (by show 9 < 22; decide) (by decide) (N := 8) rfl (by decide) rfl (by omega) (by omega) ?_
  unfold wX2_init_17
  refine rN (o := 2) hj2 (by show 10 < 22; decide) (by decide) (N := 8) rfl (by decide) rfl (by omega) (by omega) ?_
  refine rN (o := 3) hj2 (by show 11 < 22; decide) (by decide) (N := 8) rfl (by decide) rfl (by omega) (by omega) ?_
  unfold wX2_init_33
  refine rN (o := 4) hj2 (by show 12 < 22; decide) (by decide) (N := 8) rfl (by decide) rfl (by omega) (by omega) ?_
  refine rN (o := 5) hj2 (by show 13 < 22; decide) (by decide) (N := 8) rfl (by decide) rfl (by omega) (by omega) ?_
  unfold wX2_init_49
  refine rN (o := 6) hj2 (by show 14 < 22; decide) (by decide) (N := 8) rfl (by decide) rfl (by omega) (by omega) ?_
  refine rN (o := 7) hj2 (by show 15 < 22; decide) (by decide) (N := 8) rfl (by decide) rfl (by omega) (by omega) ?_
  unfold wX2_init_65
  refine rG (o := 8) hj2 (by show 16 < 22; decide) rfl (by omega) (by omega) ?_
  unfold wX2_init_77
  refine rG (o := 17) hj2 (by show 17 < 22; decide) rfl (by omega) (by omega) ?_
  unfold wX2_init_89
  refine rG (o := 26) hj2 (by show 18 < 22; decide) rfl (by omega) (by omega) ?_
  unfold wX2_init_101
  refine rN (o := 35) hj2 (by show 19 < 22; decide) (by decide) (N := 360) rfl (by decide) rfl (by omega) (by omega) ?_
  exact fin
end NW2
